/-! PURE LAYER 26: slide, undo, snap, the model's side -/
theorem l_toInt {a : Nat} (ha : a < 10) (d : Int32) : ((nI a).toInt64 + d.toInt64).toInt = (a : Int) + d.toInt := by
  rw [Int64.toInt_add, Int32.toInt_toInt64, Int32.toInt_toInt64, nI_toInt (by omega)]
  have h1 := Int32.le_toInt d
  have h2 := Int32.toInt_lt d
  exact Int.bmod_eq_of_le (by omega) (by omega)
theorem l_lt0 {a : Nat} (ha : a < 10) (d : Int32) : (lg_cmp ((nI a).toInt64 + d.toInt64) 0 < 0) = ((a : Int) + d.toInt < 0) := by
  rw [lg_cmp_lt, Int64.lt_iff_toInt_lt, l_toInt ha]; rfl
theorem l_ge {a w : Nat} (ha : a < 10) (hw : w ≤ 10) (d : Int32) : (0 ≤ lg_cmp ((nI a).toInt64 + d.toInt64) (nI w).toInt64) = ((w : Int) ≤ (a : Int) + d.toInt) := by
  rw [lg_cmp_ge, Int64.le_iff_toInt_le, l_toInt ha, Int32.toInt_toInt64, nI_toInt (by omega)]
theorem l_lt {a w : Nat} (ha : a < 10) (hw : w ≤ 10) (d : Int32) : (lg_cmp ((nI a).toInt64 + d.toInt64) (nI w).toInt64 < 0) = ((a : Int) + d.toInt < (w : Int)) := by
  rw [lg_cmp_lt, Int64.lt_iff_toInt_lt, l_toInt ha, Int32.toInt_toInt64, nI_toInt (by omega)]
theorem l_32 (x d : Int32) : (x.toInt64 + d.toInt64).toInt32 = x + d := by
  rw [Int64.toInt32_add, Int32.toInt32_toInt64, Int32.toInt32_toInt64]
/-- a corner of a band slid is off the board -/
def offS (d : Hd) (P : Bd) (dx dy : Int32) (i : Nat) : Prop := (P.x i).toInt + dx.toInt < 0 ∨ (d.w : Int) ≤ (P.x i).toInt + dx.toInt ∨ (P.y i).toInt + dy.toInt < 0 ∨ (d.h : Int) ≤ (P.y i).toInt + dy.toInt
theorem near_of {dx dy : Int32} (h : nearS dx dy = true) : -10 ≤ dx.toInt ∧ dx.toInt ≤ 10 ∧ -10 ≤ dy.toInt ∧ dy.toInt ≤ 10 := by
  unfold nearS g_in at h
  simp only [Bool.and_eq_true, Bool.not_eq_true', decide_eq_false_iff_not, i_lt, show (-10 : Int32).toInt = -10 from rfl, show (10 : Int32).toInt = 10 from rfl] at h
  omega
theorem near_not {dx dy : Int32} (h : nearS dx dy = false) : dx.toInt < -10 ∨ 10 < dx.toInt ∨ dy.toInt < -10 ∨ 10 < dy.toInt := by
  apply Classical.byContradiction
  intro z
  have : nearS dx dy = true := by
    unfold nearS g_in
    simp only [Bool.and_eq_true, Bool.not_eq_true', decide_eq_false_iff_not, i_lt, show (-10 : Int32).toInt = -10 from rfl, show (10 : Int32).toInt = 10 from rfl]
    omega
  rw [this] at h; cases h
theorem off_wr1 {d : Hd} {P : Bd} (hw : d.w ≤ 10) (hh : d.h ≤ 10) (hP : P.fit) {dx dy : Int32} (hn : nearS dx dy = true) {i : Nat} (hi : i < P.n) (h : offS d P dx dy i) : d.wr1 (P.slid dx dy) = true := by
  unfold Hd.wr1
  rw [anyTo_iff]
  refine ⟨i, hi, ?_⟩
  obtain ⟨a, b, ha, hb, e1, e2⟩ := hP.2 i hi
  obtain ⟨n1, n2, n3, n4⟩ := near_of hn
  unfold offS at h
  rw [e1, e2, nI_toInt (by omega), nI_toInt (by omega)] at h
  show (!d.peg (P.x i + dx) (P.y i + dy)) = true
  rw [Bool.not_eq_true']
  unfold Hd.peg
  rw [Bool.and_eq_false_iff]
  left
  have t1 : (P.x i + dx).toInt = (a : Int) + dx.toInt := by
    rw [e1, Int32.toInt_add, nI_toInt (by omega)]; exact Int.bmod_eq_of_le (by omega) (by omega)
  have t2 : (P.y i + dy).toInt = (b : Int) + dy.toInt := by
    rw [e2, Int32.toInt_add, nI_toInt (by omega)]; exact Int.bmod_eq_of_le (by omega) (by omega)
  cases hp : d.plc (P.x i + dx) (P.y i + dy) with
  | false => rfl
  | true =>
    unfold Hd.plc at hp
    simp only [Bool.and_eq_true, Bool.not_eq_true', decide_eq_false_iff_not, decide_eq_true_iff, i_lt, t1, t2, nI_toInt (show d.w < 2 ^ 31 by omega), nI_toInt (show d.h < 2 ^ 31 by omega), show (0 : Int32).toInt = 0 from rfl] at hp
    omega
theorem far_off {d : Hd} {P : Bd} (hw : d.w ≤ 10) (hh : d.h ≤ 10) (hP : P.fit) {dx dy : Int32} (hn : nearS dx dy = false) {i : Nat} (hi : i < P.n) : offS d P dx dy i := by
  obtain ⟨a, b, ha, hb, e1, e2⟩ := hP.2 i hi
  have := near_not hn
  unfold offS
  rw [e1, e2, nI_toInt (by omega), nI_toInt (by omega)]
  omega
theorem wrong_1 {d : Hd} {m k : Nat} {bd : Nat → Bd} {P : Bd} (h : d.wr1 P = true) : d.wrong m bd k P = 1 := by unfold Hd.wrong; rw [if_pos h]
section
variable {m F : Nat} {S : St}
theorem RM.slide {h : e_H} (w0 : RM m h S) (bn : Bn S) (hf : ∀ j, j < S.c.m → (S.c.bd j).fit) (hF : 3000 < F) (v dx dy : Int32) : Ok (f_X10_slide F h m v dx dy) fun z => z.1 = S.vSlide v dx dy ∧ RM m z.2 (S.slide v dx dy) ∧ MF (fun a _ => MA m a) h z.2 := by
  have w := w0.thr 0
  have x0 : MF (fun a _ => MA m a) h (e_sI h m 0 0) := (MF.rf _ h).sI _ (by unfold MA; omega)
  have m8 := w.view.m8
  unfold f_X10_slide St.vSlide St.slide
  refine Ok.gI w0.sh.1 ?_
  simp only [w.view.o.is, w.view.isBand, Option.bind_some]
  cases q : S.c.isB v with
  | false => exact Ok.ret ⟨rfl, w, x0⟩
  | true =>
    obtain ⟨k, rfl, hk⟩ := Im.isB_of q m8
    have g := w.view.bs k hk
    have hP := hf k hk
    have hw10 := w.view.rh.w10
    have hh10 := w.view.rh.h10
    have h8 := g.le
    have gb := w.c.row.bb k hk
    simp only [b2i, if_true, show ¬ (1 : Int32) = 0 by decide, if_false, Im.vB, nI_clamp (show k < 2 ^ 31 by omega)]
    refine Ok.bind (layRead w (by omega)) fun h1 ⟨mf1, r1⟩ => ?_
    have w1 := w.mf mf1 fun a j z => by have := z.1; unfold MW; omega
    have y1 : MF (fun a _ => MA m a) h h1 := x0.tr (mf1.mono fun a j z => by have := z.1; unfold MA; omega)
    obtain ⟨P, hPP⟩ : ∃ P, P = S.c.bd k := ⟨_, rfl⟩
    rw [← hPP] at g hP gb h8 ⊢
    refine Ok.bE (R := fun z => (∀ r, z = .error r → r.1 = 1 ∧ MF (fun a _ => a = m + 3) h1 r.2 ∧ ∃ i, i < P.n ∧ offS S.c.d P dx dy i) ∧ ∀ r, z = .ok r → MF (fun a _ => a = m + 3) h1 r ∧ (∀ i, i < P.n → ¬ offS S.c.d P dx dy i) ∧ ∀ j, e_I r (m + 3) j = if ∃ i, i < P.n ∧ j = 105 + 17 * k + 1 + 2 * i then P.x ((j - (105 + 17 * k + 1)) / 2) + dx else if ∃ i, i < P.n ∧ j = 105 + 17 * k + 2 + 2 * i then P.y ((j - (105 + 17 * k + 2)) / 2) + dy else e_I h1 (m + 3) j) ?_ (fun r hr => ?_) (fun r hr => ?_)
    · refine Ok.loopC2 (lp := lp_X10_slide_22 F m (nI k) dx dy) (fun i x h2 => x = nI i ∧ MF (fun a _ => a = m + 3) h1 h2 ∧ (∀ l, l < i → ¬ offS S.c.d P dx dy l) ∧ ∀ j, e_I h2 (m + 3) j = if ∃ l, l < i ∧ j = 105 + 17 * k + 1 + 2 * l then P.x ((j - (105 + 17 * k + 1)) / 2) + dx else if ∃ l, l < i ∧ j = 105 + 17 * k + 2 + 2 * l then P.y ((j - (105 + 17 * k + 2)) / 2) + dy else e_I h1 (m + 3) j) P.n (fun i x h2 f hi ⟨e, mf, no, r⟩ nx => ?_) (fun x h2 f ⟨e, mf, no, r⟩ => ?_) (by omega) ⟨rfl, MF.rf _ h1, fun l hl => by omega, fun j => by rw [if_neg (by rintro ⟨l, hl, _⟩; omega), if_neg (by rintro ⟨l, hl, _⟩; omega)]⟩
      · subst e
        have w2 := w1.mf mf fun a j z => by unfold MW; omega
        have g2 := w2.view.bs k hk
        rw [← hPP] at g2
        obtain ⟨a, b, ha, hb, e1, e2⟩ := hP.2 i hi
        have d0 : e_aI h2 (m + 2) 0 0 = some (nI S.c.d.w) := (w2.rdN (j := 0) (by decide)).trans (by rw [w2.c.row.hd.w])
        have d1 : e_aI h2 (m + 2) 0 1 = some (nI S.c.d.h) := (w2.rdN (j := 1) (by decide)).trans (by rw [w2.c.row.hd.hh])
        have n15 := w2.f0 1 15 0 512 rfl
        have offE : offS S.c.d P dx dy i ↔ ((a : Int) + dx.toInt < 0 ∨ (S.c.d.w : Int) ≤ (a : Int) + dx.toInt ∨ (b : Int) + dy.toInt < 0 ∨ (S.c.d.h : Int) ≤ (b : Int) + dy.toInt) := by
          unfold offS
          rw [e1, e2, nI_toInt (by omega), nI_toInt (by omega)]
        simp only [lp_X10_slide_22, w2.view.o.is, w2.view.o.fn g2, g2.nle hi, if_false, w2.view.o.x0 g2 hi, w2.view.o.y0 g2 hi, Option.bind_some, e1, e2, l_lt0 ha, l_lt0 hb, n15, show m + 1 + 1 = m + 2 from rfl, d0, d1, l_ge ha hw10, l_lt hb hh10, l_32]
        have ex : ∀ hh, MF (fun a _ => a = m + 3) h1 hh → offS S.c.d P dx dy i → Ok (some ((.error (1, hh)) : Except (Int32 × e_H) e_H)) (fun z => (∀ r, z = .error r → r.1 = 1 ∧ MF (fun a _ => a = m + 3) h1 r.2 ∧ ∃ i, i < P.n ∧ offS S.c.d P dx dy i) ∧ ∀ r, z = .ok r → MF (fun a _ => a = m + 3) h1 r ∧ (∀ i, i < P.n → ¬ offS S.c.d P dx dy i) ∧ ∀ j, e_I r (m + 3) j = if ∃ i, i < P.n ∧ j = 105 + 17 * k + 1 + 2 * i then P.x ((j - (105 + 17 * k + 1)) / 2) + dx else if ∃ i, i < P.n ∧ j = 105 + 17 * k + 2 + 2 * i then P.y ((j - (105 + 17 * k + 2)) / 2) + dy else e_I h1 (m + 3) j) := by
          intro hh mfh ho
          exact Ok.ret ⟨fun r hr => by cases hr; exact ⟨rfl, mfh, i, hi, ho⟩, fun r hr => by cases hr⟩
        refine Ok.ite (fun c1 => ex h2 mf (offE.mpr (Or.inl c1))) (fun c1 => ?_)
        refine Ok.ite (fun c2 => ex h2 mf (offE.mpr (Or.inr (Or.inl c2)))) (fun c2 => ?_)
        refine Ok.ite (fun c3 => ex h2 mf (offE.mpr (Or.inr (Or.inr (Or.inl c3))))) (fun c3 => ?_)
        refine Ok.ite (fun c4 => ?_) (fun c4 => ex h2 mf (offE.mpr (by omega)))
        refine Ok.eq (w2.f0 2 16 0 258 rfl) (Ok.eq (p_wI' (w2.kk 2 16 0 258 rfl) (i_rx k i) (by omega) (by decide) _) ?_)
        obtain ⟨h3, hh3⟩ : ∃ z, z = e_sI h2 (m + 1 + 2) (105 + 17 * k + 1 + 2 * i) (nI a + dx) := ⟨_, rfl⟩
        rw [← hh3]
        have mf3 : MF (fun a _ => a = m + 3) h1 h3 := by rw [hh3]; exact mf.sI _ rfl
        have w3 := w1.mf mf3 fun a j z => by unfold MW; omega
        refine Ok.eq (w3.f0 2 16 0 258 rfl) (Ok.eq (p_wI' (w3.kk 2 16 0 258 rfl) (i_ry k i) (by omega) (by decide) _) ?_)
        simp only [Option.bind_some, ← nI_succ]
        refine nx _ _ ⟨rfl, mf3.sI _ rfl, fun l hl => ?_, fun j => ?_⟩
        · by_cases z : l = i
          · rw [z, offE]; omega
          · exact no l (by omega)
        · rw [e_I_sI]
          by_cases z : j = 105 + 17 * k + 2 + 2 * i
          · rw [if_pos ⟨by omega, z⟩, if_neg (by rintro ⟨l, hl, hl2⟩; omega), if_pos ⟨i, by omega, z⟩, show (j - (105 + 17 * k + 2)) / 2 = i by omega, e2]
          · rw [if_neg (fun y => z y.2), hh3, e_I_sI]
            by_cases z2 : j = 105 + 17 * k + 1 + 2 * i
            · rw [if_pos ⟨by omega, z2⟩, if_pos ⟨i, by omega, z2⟩, show (j - (105 + 17 * k + 1)) / 2 = i by omega, e1]
            · rw [if_neg (fun y => z2 y.2), r j]
              by_cases z3 : ∃ l, l < i ∧ j = 105 + 17 * k + 1 + 2 * l
              · rw [if_pos z3, if_pos (by obtain ⟨l, q1, q2⟩ := z3; exact ⟨l, by omega, q2⟩)]
              · rw [if_neg z3, if_neg (show ¬ ∃ l, l < i + 1 ∧ j = 105 + 17 * k + 1 + 2 * l by
                  rintro ⟨l, q1, q2⟩
                  by_cases y : l = i
                  · subst y; exact z2 q2
                  · exact z3 ⟨l, by omega, q2⟩)]
                by_cases z4 : ∃ l, l < i ∧ j = 105 + 17 * k + 2 + 2 * l
                · rw [if_pos z4, if_pos (by obtain ⟨l, q1, q2⟩ := z4; exact ⟨l, by omega, q2⟩)]
                · rw [if_neg z4, if_neg (by
                    rintro ⟨l, q1, q2⟩
                    by_cases y : l = i
                    · subst y; exact z q2
                    · exact z4 ⟨l, by omega, q2⟩)]
      · subst e
        have w2 := w1.mf mf fun a j z => by unfold MW; omega
        have g2 := w2.view.bs k hk
        rw [← hPP] at g2
        simp only [lp_X10_slide_22, w2.view.o.is, w2.view.o.fn g2, Option.bind_some, Int32.le_refl, if_true]
        exact Ok.ret ⟨fun r hr => (by cases hr), fun r' hr => by cases hr; exact ⟨mf, no, r⟩⟩
    · obtain ⟨q1, q2, i, hi, ho⟩ := hr.1 r rfl
      have w2 := w1.mf q2 fun a j z => by unfold MW; omega
      have y2 := y1.tr (q2.mono fun a j z => by unfold MA; omega)
      cases hn : nearS dx dy with
      | false => exact ⟨q1, w2, y2⟩
      | true =>
        have hw := wrong_1 (m := S.c.m) (k := k) (bd := S.c.bd) (off_wr1 hw10 hh10 hP hn hi ho)
        refine ⟨?_, ?_, y2⟩
        · rw [if_pos rfl, hw]; exact q1
        · rw [if_pos rfl]
          unfold St.chg
          rw [hw, if_neg (by decide)]; exact w2
    · obtain ⟨q1, no, q3⟩ := hr.2 r rfl
      have w2 := w1.mf q1 fun a j z => by unfold MW; omega
      have y2 := y1.tr (q1.mono fun a j z => by unfold MA; omega)
      have hn : nearS dx dy = true := by
        cases hn : nearS dx dy with
        | true => rfl
        | false => exact absurd (far_off hw10 hh10 hP hn g.pos) (no 0 g.pos)
      rw [hn, if_pos rfl, if_pos rfl]
      have s2 : e_I r (m + 2) = e_I (e_sI h m 0 0) (m + 2) := by
        funext j
        rw [q1.I _ _ (by omega)]
        exact mf1.I _ _ (by omega)
      refine Ok.is w2.sh.1 (Ok.b2 (changeM w2 bn hF hk (P := P.slid dx dy) ?_) fun u h4 ⟨c1, c2, c3⟩ => ?_)
      · refine readRow w2 hk (by rw [hPP]; rfl) (by rw [hPP]; rfl) (fun j hj hz => ?_) (fun i hi => ?_) (fun i hi => ?_)
        · rw [q3, if_neg (by rintro ⟨i, a1, a2⟩; omega), if_neg (by rintro ⟨i, a1, a2⟩; omega), s2]
          exact r1 j hj
        · have hi : i < P.n := hi
          rw [q3, if_pos ⟨i, hi, rfl⟩, show (105 + 17 * k + 1 + 2 * i - (105 + 17 * k + 1)) / 2 = i by omega]; rfl
        · have hi : i < P.n := hi
          rw [q3, if_neg (by rintro ⟨l, a1, a2⟩; omega), if_pos ⟨i, hi, rfl⟩, show (105 + 17 * k + 2 + 2 * i - (105 + 17 * k + 2)) / 2 = i by omega]; rfl
      · exact Ok.ret ⟨c1, c2, y2.tr (c3.mono fun a j z => by unfold UWm MW at z; unfold MA; omega)⟩
end
