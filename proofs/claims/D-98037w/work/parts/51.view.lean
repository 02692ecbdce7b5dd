/-! PURE LAYER 12: the board at hand, as both sides see it; calls that only look -/
/-- far from the component's own cells -/
def Far (b a : Nat) : Prop := b + 62 ≤ a ∨ a = b + 4 ∨ a = b + 5 ∨ a = b + 6
/-- the component's board at hand -/
def CV (h : e_H) (b B o ba : Nat) (c : Im) : Prop :=
  (e_k h b = some (.inl 0)) ∧
  (e_R h b 6 = some B) ∧
  (BH h B o c.d) ∧
  (e_R h B 0 = some ba) ∧
  (e_k h ba = some (.inr (4, 8))) ∧
  (e_I h B 4 = nI c.m) ∧
  (c.m ≤ 8) ∧
  (∀ i, i < c.m → ∃ a xs ys, e_R h ba i = some a ∧ IsBd h a xs ys (c.bd i) ∧ Far b a ∧ Far b xs ∧ Far b ys)
theorem CV.k {h : e_H} {b B o ba : Nat} {c : Im} (w__ : CV h b B o ba c) : e_k h b = some (.inl 0) := w__.1
theorem CV.rB {h : e_H} {b B o ba : Nat} {c : Im} (w__ : CV h b B o ba c) : e_R h b 6 = some B := w__.2.1
theorem CV.bh {h : e_H} {b B o ba : Nat} {c : Im} (w__ : CV h b B o ba c) : BH h B o c.d := w__.2.2.1
theorem CV.rb {h : e_H} {b B o ba : Nat} {c : Im} (w__ : CV h b B o ba c) : e_R h B 0 = some ba := w__.2.2.2.1
theorem CV.kb {h : e_H} {b B o ba : Nat} {c : Im} (w__ : CV h b B o ba c) : e_k h ba = some (.inr (4, 8)) := w__.2.2.2.2.1
theorem CV.mm {h : e_H} {b B o ba : Nat} {c : Im} (w__ : CV h b B o ba c) : e_I h B 4 = nI c.m := w__.2.2.2.2.2.1
theorem CV.m8 {h : e_H} {b B o ba : Nat} {c : Im} (w__ : CV h b B o ba c) : c.m ≤ 8 := w__.2.2.2.2.2.2.1
theorem CV.bs {h : e_H} {b B o ba : Nat} {c : Im} (w__ : CV h b B o ba c) : ∀ i, i < c.m → ∃ a xs ys, e_R h ba i = some a ∧ IsBd h a xs ys (c.bd i) ∧ Far b a ∧ Far b xs ∧ Far b ys := w__.2.2.2.2.2.2.2
/-- the model's -/
def MV (h : e_H) (m : Nat) (c : Im) : Prop :=
  (MO h m (m + 2)) ∧
  (RH h (m + 2) 512 c.d) ∧
  (e_I h (m + 2) 4 = nI c.m) ∧
  (c.m ≤ 8) ∧
  (∀ i, i < c.m → RB h (m + 2) 512 i (c.bd i))
theorem MV.o {h : e_H} {m : Nat} {c : Im} (w__ : MV h m c) : MO h m (m + 2) := w__.1
theorem MV.rh {h : e_H} {m : Nat} {c : Im} (w__ : MV h m c) : RH h (m + 2) 512 c.d := w__.2.1
theorem MV.mm {h : e_H} {m : Nat} {c : Im} (w__ : MV h m c) : e_I h (m + 2) 4 = nI c.m := w__.2.2.1
theorem MV.m8 {h : e_H} {m : Nat} {c : Im} (w__ : MV h m c) : c.m ≤ 8 := w__.2.2.2.1
theorem MV.bs {h : e_H} {m : Nat} {c : Im} (w__ : MV h m c) : ∀ i, i < c.m → RB h (m + 2) 512 i (c.bd i) := w__.2.2.2.2
def Im.isB (c : Im) (v : Int32) : Bool := !decide (v < 0) && decide (v < nI c.m)
def Hd.at' (d : Hd) (v : Int32) : Bool := !decide (v < 0) && d.plc (v - v / 10 * 10) (v / 10)
theorem Im.isB_of {c : Im} {v : Int32} (h : c.isB v = true) (h8 : c.m ≤ 8) : ∃ i, v = nI i ∧ i < c.m := by
  unfold Im.isB at h
  simp only [Bool.and_eq_true, Bool.not_eq_true', decide_eq_false_iff_not, decide_eq_true_iff] at h
  obtain ⟨i, hi, rfl⟩ := i_nn h.1
  have := h.2
  rw [p_lt hi (by omega)] at this
  exact ⟨i, rfl, this⟩
theorem i_div10 {a : Nat} (h : a < 2 ^ 31) : nI a / 10 = nI (a / 10) := pk_div h (by decide) (by decide)
theorem i_mod10 {a : Nat} (h : a < 2 ^ 31) : nI a - nI a / 10 * 10 = nI (a % 10) := pk_rem h (by decide) (by decide)
theorem Hd.at_of {d : Hd} {v : Int32} (h : d.at' v = true) (hw : d.w ≤ 10) (hh : d.h ≤ 10) : ∃ a, v = nI a ∧ a < 100 ∧ a % 10 < d.w ∧ a / 10 < d.h ∧ v - v / 10 * 10 = nI (a % 10) ∧ v / 10 = nI (a / 10) := by
  unfold Hd.at' at h
  simp only [Bool.and_eq_true, Bool.not_eq_true', decide_eq_false_iff_not] at h
  obtain ⟨a, ha, rfl⟩ := i_nn h.1
  obtain ⟨x, y, e1, e2, hx, hy, h1, h2⟩ := Hd.plc_of h.2
  have e3 := i_div10 ha
  have e4 := i_mod10 ha
  rw [e4] at e1
  rw [e3] at e2
  have e1 := p_inj (by omega) hx e1
  have e2 := p_inj (by omega) hy e2
  rw [p_le (by omega) hx] at h1
  rw [p_le (by omega) hy] at h2
  exact ⟨a, rfl, by omega, by omega, by omega, e4, e3⟩
section
variable {h : e_H} {b B o ba : Nat} {c : Im}
theorem CV.is (w : CV h b B o ba c) : e_is h b 0 = some () := p_is w.k
theorem CV.isd (w : CV h b B o ba c) : e_is h B 2 = some () := p_is w.bh.k
theorem CV.fB (w : CV h b B o ba c) : e_fA h b 0 6 = some B := p_fA w.k w.rB
theorem CV.fb (w : CV h b B o ba c) : e_fA h B 2 0 = some ba := p_fA w.bh.k w.rb
theorem CV.fo (w : CV h b B o ba c) : e_fA h B 2 1 = some o := p_fA w.bh.k w.bh.ro
theorem CV.fm (w : CV h b B o ba c) : e_fI h B 2 4 = some (nI c.m) := by rw [p_fI w.bh.k, w.mm]
theorem CV.bd (w : CV h b B o ba c) {i : Nat} (hi : i < c.m) : ∃ a xs ys, e_aA h ba 4 (nI i) = some a ∧ IsBd h a xs ys (c.bd i) := by
  obtain ⟨a, xs, ys, h1, h2, -⟩ := w.bs i hi
  have := w.m8
  exact ⟨a, xs, ys, p_aA w.kb (by omega) (by decide) h1, h2⟩
theorem CV.bdF (w : CV h b B o ba c) {i : Nat} (hi : i < c.m) : ∃ a xs ys, e_aA h ba 4 (nI i) = some a ∧ IsBd h a xs ys (c.bd i) ∧ Far b a ∧ Far b xs ∧ Far b ys := by
  obtain ⟨a, xs, ys, h1, h2, h3⟩ := w.bs i hi
  have := w.m8
  exact ⟨a, xs, ys, p_aA w.kb (by omega) (by decide) h1, h2, h3⟩
theorem CV.nle (w : CV h b B o ba c) {i : Nat} (hi : i < c.m) : (nI c.m ≤ nI i) = False := by
  have := w.m8
  rw [p_le (by omega) (by omega)]; simp; omega
theorem CV.isBand (w : CV h b B o ba c) (v : Int32) : f_X1_isBand h b v = some (b2i (c.isB v)) := by
  have := w.m8
  simp only [f_X1_isBand, w.fB, w.fm, Option.bind_some, f_isIn, g_in_pred (show c.m ≤ 10000 by omega), Im.isB]
  cases (!decide (v < 0) && decide (v < nI c.m)) <;> rfl
theorem CV.isPlace (w : CV h b B o ba c) (v : Int32) : f_X1_isPlace h b v = some (b2i (c.d.at' v)) := by
  unfold f_X1_isPlace Hd.at'
  by_cases q : v < 0
  · simp [q, b2i]
  · simp only [q, if_false, w.fB, w.isd, w.bh.isPlace, Option.bind_some, decide_false, Bool.not_false, Bool.true_and]
    cases c.d.plc (v - v / 10 * 10) (v / 10) <;> rfl
end
section
variable {h : e_H} {m : Nat} {c : Im}
theorem MV.bands (w : MV h m c) : f_X10_bands h m = some (nI c.m) := by
  simp only [f_X10_bands, w.o.now, show e_aI h (m + 2) 0 4 = some (e_I h (m + 2) 4) from w.rh.rd (by decide), w.mm, Option.bind_some]
theorem MV.isBand (w : MV h m c) (v : Int32) : f_X10_isBand h m v = some (b2i (c.isB v)) := by
  unfold f_X10_isBand Im.isB
  by_cases q : v < 0
  · simp [q, b2i]
  · simp only [q, if_false, w.o.is, w.bands, Option.bind_some, decide_false, Bool.not_false, Bool.true_and]
    by_cases q2 : nI c.m ≤ v
    · have : ¬ v < nI c.m := by rw [i_not_lt]; exact q2
      simp [q2, this, b2i]
    · have : v < nI c.m := by rw [i_not_le] at q2; exact q2
      simp [q2, this, b2i]
theorem MV.isAt (w : MV h m c) (v : Int32) : f_X10_isAt h m v = some (b2i (c.d.at' v)) := by
  unfold f_X10_isAt Hd.at'
  by_cases q : v < 0
  · simp [q, b2i]
  · simp only [q, if_false, w.o.now, w.rh.isPlace, Option.bind_some, decide_false, Bool.not_false, Bool.true_and]
    cases c.d.plc (v - v / 10 * 10) (v / 10) <;> rfl
theorem MV.nle (w : MV h m c) {i : Nat} (hi : i < c.m) : (nI c.m ≤ nI i) = False := by
  have := w.m8
  rw [p_le (by omega) (by omega)]; simp; omega
/-- what a call leaves that only says that nothing is thrown -/
theorem MV.thr (w : MV h m c) (v : Int32) : MV (e_sI h m 0 v) m c := by
  have e : ∀ a, a ≠ m → e_I (e_sI h m 0 v) a = e_I h a := fun a ha => by funext j; rw [e_I_sI, if_neg (by omega)]
  have e2 := e (m + 2) (by omega)
  have r := w.rh
  refine ⟨⟨w.o.k, w.o.r⟩, ⟨r.k, r.s1, r.s2, r.w10, r.h10, ?_, ?_, ?_, ?_, ?_⟩, ?_, w.m8, fun i hi => ?_⟩
  · rw [e2]; exact r.w
  · rw [e2]; exact r.hh
  · rw [e2]; exact r.bell
  · rw [e2]; exact r.outs
  · intro i hi; rw [e2]; exact r.out i hi
  · rw [e2]; exact w.mm
  · have q := w.bs i hi
    refine ⟨q.k, q.s1, q.s2, q.b8, ?_, q.pos, q.le, ?_, ?_⟩
    · rw [e2]; exact q.n
    · intro j hj; rw [e2]; exact q.x j hj
    · intro j hj; rw [e2]; exact q.y j hj
theorem MV.gI (w : MV h m c) {v : Int32} : e_gI h m 8 0 v = some (e_sI h m 0 v) := p_gI w.o.k 0 v
end
/-! answers -/
section
def Im.vPeg (c : Im) (v : Int32) : Int32 := if c.d.at' v = true then b2i (c.d.peg (v - v / 10 * 10) (v / 10)) else -1
def Im.vB (c : Im) (v : Int32) : Bd := c.bd v.toNatClampNeg
def Im.isC (c : Im) (v i : Int32) : Bool := c.isB v && (!decide (i < 0) && decide (i < nI (c.vB v).n))
def Im.vCorner (c : Im) (v i : Int32) : Int32 := if c.isC v i = true then 10 * (c.vB v).y i.toNatClampNeg + (c.vB v).x i.toNatClampNeg else -1
def Im.vSide (c : Im) (v i : Int32) : Int32 := if c.isC v i = true then (c.vB v).sq i.toNatClampNeg else -1
def Im.vCross (c : Im) (v i k : Int32) : Int32 := if (c.isB v && (c.isB i && (decide (v ≠ i) && g_in k 0 1))) = true then (c.vB v).mts (c.vB i) (1 + k) else -1
def Im.vIn (c : Im) (v i : Int32) : Int32 := if (c.isB v && c.isB i) = true then b2i (decide (v ≠ i) && (c.vB v).inside (c.vB i)) else -1
end
theorem isC_of {c : Im} {v i : Int32} (h : c.isC v i = true) (h8 : c.m ≤ 8) (hn : ∀ j, j < c.m → (c.bd j).n ≤ 8) : ∃ k j, v = nI k ∧ i = nI j ∧ k < c.m ∧ j < (c.bd k).n ∧ (c.bd k).n ≤ 8 := by
  unfold Im.isC at h
  simp only [Bool.and_eq_true, Bool.not_eq_true', decide_eq_false_iff_not, decide_eq_true_iff] at h
  obtain ⟨h1, h2, h3⟩ := h
  obtain ⟨k, rfl, hk⟩ := Im.isB_of h1 h8
  obtain ⟨j, hj, rfl⟩ := i_nn h2
  unfold Im.vB at h3
  have hn := hn k hk
  rw [nI_clamp (by omega)] at h3
  rw [p_lt hj (by omega)] at h3
  exact ⟨k, j, rfl, rfl, hk, h3, hn⟩
section
variable {h : e_H} {b B o ba : Nat} {c : Im}
theorem CV.peg (w : CV h b B o ba c) (v : Int32) : f_X1_peg h b v = some (c.vPeg v) := by
  unfold f_X1_peg Im.vPeg Hd.peg
  simp only [w.is, w.isPlace, Option.bind_some]
  cases q : c.d.at' v with
  | false => rfl
  | true =>
    obtain ⟨a, rfl, h1, h2, h3, e1, e2⟩ := Hd.at_of q w.bh.w10 w.bh.h10
    have hp : c.d.plc (nI a - nI a / 10 * 10) (nI a / 10) = true := by
      unfold Hd.at' at q; simp only [Bool.and_eq_true] at q; exact q.2
    rw [e1, e2] at hp ⊢
    simp only [hp, nI_clamp (show a % 10 < 2 ^ 31 by omega), nI_clamp (show a / 10 < 2 ^ 31 by omega), show 10 * (a / 10) + a % 10 = a by omega, w.fB, w.fo, p_aI w.bh.ko (show a < 100 by omega) (by decide), w.bh.out a h1, Option.bind_some, Bool.true_and]
    cases c.d.out a <;> rfl
theorem CV.n8 (w : CV h b B o ba c) {j : Nat} (hj : j < c.m) : (c.bd j).n ≤ 8 := by
  obtain ⟨a, xs, ys, h1, h2⟩ := w.bd hj
  exact h2.le
theorem CV.isCorner (w : CV h b B o ba c) (v i : Int32) : f_X1_isCorner h b v i = some (b2i (c.isC v i)) := by
  simp only [f_X1_isCorner, w.is, w.isBand, Option.bind_some, Im.isC, Im.vB]
  cases q : c.isB v with
  | false => rfl
  | true =>
    obtain ⟨k, rfl, hk⟩ := Im.isB_of q w.m8
    obtain ⟨a, xs, ys, h1, h2⟩ := w.bd hk
    have := h2.le
    have := w.m8
    simp only [w.fB, w.fb, h1, h2.fn, Option.bind_some, f_isIn, g_in_pred (show (c.bd k).n ≤ 10000 by omega), nI_clamp (show k < 2 ^ 31 by omega)]
    cases (!decide (i < 0) && decide (i < nI (c.bd k).n)) <;> rfl
theorem CV.corner (w : CV h b B o ba c) (v i : Int32) : f_X1_corner h b v i = some (c.vCorner v i) := by
  unfold f_X1_corner Im.vCorner
  simp only [w.is, w.isCorner, Option.bind_some]
  cases q : c.isC v i with
  | false => rfl
  | true =>
    obtain ⟨k, j, rfl, rfl, hk, hj, hn⟩ := isC_of q w.m8 (fun j hj => w.n8 hj)
    obtain ⟨a, xs, ys, h1, h2⟩ := w.bd hk
    have := w.m8
    simp only [w.fB, w.fb, h1, h2.fx, h2.fy, h2.ax hj, h2.ay hj, Option.bind_some, Im.vB, nI_clamp (show k < 2 ^ 31 by omega), nI_clamp (show j < 2 ^ 31 by omega)]
    rfl
theorem CV.side (w : CV h b B o ba c) (v i : Int32) : f_X1_side h b v i = some (c.vSide v i) := by
  unfold f_X1_side Im.vSide
  simp only [w.is, w.isCorner, Option.bind_some]
  cases q : c.isC v i with
  | false => rfl
  | true =>
    obtain ⟨k, j, rfl, rfl, hk, hj, hn⟩ := isC_of q w.m8 (fun j hj => w.n8 hj)
    obtain ⟨a, xs, ys, h1, h2⟩ := w.bd hk
    have := w.m8
    simp only [w.fB, w.fb, h1, h2.is, h2.square hj, Option.bind_some, Im.vB, nI_clamp (show k < 2 ^ 31 by omega), nI_clamp (show j < 2 ^ 31 by omega)]
    rfl
theorem CV.cross (w : CV h b B o ba c) {F : Nat} (hF : 9 < F) (v i k : Int32) : f_X1_cross F h b v i k = some (c.vCross v i k) := by
  unfold f_X1_cross Im.vCross
  simp only [w.is, w.isBand, Option.bind_some]
  cases q1 : c.isB v with
  | false => rfl
  | true =>
    cases q2 : c.isB i with
    | false => rfl
    | true =>
      by_cases q3 : v = i
      · simp [q3, b2i]
      · simp only [b2i, if_true, if_false, q3, f_isIn, Option.bind_some, Bool.true_and, ne_eq, not_false_eq_true, decide_true, show ¬ (1 : Int32) = 0 by decide]
        cases q4 : g_in k 0 1 with
        | false => rfl
        | true =>
          obtain ⟨k1, rfl, h1⟩ := Im.isB_of q1 w.m8
          obtain ⟨k2, rfl, h2⟩ := Im.isB_of q2 w.m8
          obtain ⟨a1, xs1, ys1, g1, w1⟩ := w.bd h1
          obtain ⟨a2, xs2, ys2, g2, w2⟩ := w.bd h2
          have := w.m8
          simp only [w.fB, w.fb, g1, g2, w1.is, w1.meetings hF w2, Option.bind_some, Im.vB, nI_clamp (show k1 < 2 ^ 31 by omega), nI_clamp (show k2 < 2 ^ 31 by omega)]
          rfl
theorem CV.in' (w : CV h b B o ba c) {F : Nat} (hF : 9 < F) (hp : ∀ j, j < c.m → 0 < (c.bd j).n) (v i : Int32) : f_X1_in F h b v i = some (c.vIn v i) := by
  unfold f_X1_in Im.vIn
  simp only [w.is, w.isBand, Option.bind_some]
  cases q1 : c.isB v with
  | false => rfl
  | true =>
    cases q2 : c.isB i with
    | false => rfl
    | true =>
      by_cases q3 : v = i
      · simp [q3, b2i]
      · obtain ⟨k1, rfl, h1⟩ := Im.isB_of q1 w.m8
        obtain ⟨k2, rfl, h2⟩ := Im.isB_of q2 w.m8
        obtain ⟨a1, xs1, ys1, g1, w1⟩ := w.bd h1
        obtain ⟨a2, xs2, ys2, g2, w2⟩ := w.bd h2
        have := w.m8
        simp only [b2i, if_true, if_false, q3, w.fB, w.fb, g1, g2, w1.is, w1.isInside hF (hp k1 h1) w2, Option.bind_some, Im.vB, nI_clamp (show k1 < 2 ^ 31 by omega), nI_clamp (show k2 < 2 ^ 31 by omega), Bool.true_and, ne_eq, not_false_eq_true, decide_true, show ¬ (1 : Int32) = 0 by decide]
        cases (c.bd k1).inside (c.bd k2) <;> rfl
end
section
variable {h : e_H} {m : Nat} {c : Im}
theorem MV.peg (w0 : MV h m c) (v : Int32) : f_X10_peg h m v = some (c.vPeg v, e_sI h m 0 0) := by
  have w := w0.thr 0
  unfold f_X10_peg Im.vPeg
  simp only [w0.gI, w.o.is, w.isAt, w.o.now, w.rh.isPeg, Option.bind_some]
  cases c.d.at' v <;> cases c.d.peg (v - v / 10 * 10) (v / 10) <;> rfl
theorem MV.n8 (w0 : MV h m c) {j : Nat} (hj : j < c.m) : (c.bd j).n ≤ 8 := (w0.bs j hj).le
theorem MV.corner (w0 : MV h m c) (v i : Int32) : f_X10_corner h m v i = some (c.vCorner v i, e_sI h m 0 0) := by
  have w := w0.thr 0
  have := w.m8
  unfold f_X10_corner Im.vCorner
  simp only [w0.gI, w.o.is, w.isBand, Option.bind_some]
  cases q : c.isC v i with
  | true =>
    obtain ⟨k, j, rfl, rfl, hk, hj, hn⟩ := isC_of q w.m8 (fun j hj => w.n8 hj)
    have w2 := w.bs k hk
    have e1 : c.isB (nI k) = true := by unfold Im.isC at q; rw [Bool.and_eq_true] at q; exact q.1
    simp only [e1, w.o.fn w2, w2.nle hj, w.o.x0 w2 hj, w.o.y0 w2 hj, Option.bind_some, Im.vB, nI_clamp (show k < 2 ^ 31 by omega), nI_clamp (show j < 2 ^ 31 by omega), nI_pos (show j < 2 ^ 31 by omega), if_false]
    rfl
  | false =>
    unfold Im.isC at q
    cases q1 : c.isB v with
    | false => rfl
    | true =>
      obtain ⟨k, rfl, hk⟩ := Im.isB_of q1 w.m8
      have w2 := w.bs k hk
      rw [q1, Im.vB, nI_clamp (show k < 2 ^ 31 by omega)] at q
      by_cases q2 : i < 0
      · simp [q2, b2i]
      · simp only [q2, decide_false, Bool.not_false, Bool.true_and, decide_eq_false_iff_not] at q
        rw [i_not_lt] at q
        simp [q2, w.o.fn w2, q, b2i]
theorem MV.side (w0 : MV h m c) (v i : Int32) : f_X10_side h m v i = some (c.vSide v i, e_sI h m 0 0) := by
  have w := w0.thr 0
  have := w.m8
  unfold f_X10_side Im.vSide
  simp only [w0.gI, w.o.is, w.isBand, Option.bind_some]
  cases q : c.isC v i with
  | true =>
    obtain ⟨k, j, rfl, rfl, hk, hj, hn⟩ := isC_of q w.m8 (fun j hj => w.n8 hj)
    have w2 := w.bs k hk
    have e1 : c.isB (nI k) = true := by unfold Im.isC at q; rw [Bool.and_eq_true] at q; exact q.1
    have e2 : nI j < nI (c.bd k).n := by rw [p_lt (by omega) (by omega)]; exact hj
    simp only [e1, w.o.fn w2, e2, if_true, w.o.x0 w2 hj, w.o.y0 w2 hj, ← nI_succ, w.o.x1 w2 hj, w.o.y1 w2 hj, Option.bind_some, Im.vB, nI_clamp (show k < 2 ^ 31 by omega), nI_clamp (show j < 2 ^ 31 by omega), nI_pos (show j < 2 ^ 31 by omega), if_false]
    rfl
  | false =>
    unfold Im.isC at q
    cases q1 : c.isB v with
    | false => rfl
    | true =>
      obtain ⟨k, rfl, hk⟩ := Im.isB_of q1 w.m8
      have w2 := w.bs k hk
      rw [q1, Im.vB, nI_clamp (show k < 2 ^ 31 by omega)] at q
      by_cases q2 : i < 0
      · simp [q2, b2i]
      · simp only [q2, decide_false, Bool.not_false, Bool.true_and, decide_eq_false_iff_not] at q
        simp [q2, w.o.fn w2, q, b2i]
theorem MV.cross (w0 : MV h m c) {F : Nat} (hF : 9 < F) (v i k : Int32) : f_X10_cross F h m v i k = some (c.vCross v i k, e_sI h m 0 0) := by
  have w := w0.thr 0
  unfold f_X10_cross Im.vCross
  simp only [w0.gI, w.o.is, w.isBand, Option.bind_some]
  cases q1 : c.isB v with
  | false => rfl
  | true =>
    cases q2 : c.isB i with
    | false => rfl
    | true =>
      by_cases q3 : v = i
      · simp [q3, b2i]
      · simp only [b2i, if_true, if_false, q3, f_isIn10, Option.bind_some, Bool.true_and, ne_eq, not_false_eq_true, decide_true, show ¬ (1 : Int32) = 0 by decide]
        cases q4 : g_in k 0 1 with
        | false => rfl
        | true =>
          obtain ⟨k1, rfl, h1⟩ := Im.isB_of q1 w.m8
          obtain ⟨k2, rfl, h2⟩ := Im.isB_of q2 w.m8
          have := w.m8
          simp only [w.o.crossings (w.bs k1 h1) hF (w.bs k2 h2), Option.bind_some, Im.vB, nI_clamp (show k1 < 2 ^ 31 by omega), nI_clamp (show k2 < 2 ^ 31 by omega), Int32.add_comm k 1]
          rfl
theorem MV.in' (w0 : MV h m c) {F : Nat} (hF : 9 < F) (hp : ∀ j, j < c.m → (c.bd j).fit) (v i : Int32) : f_X10_in F h m v i = some (c.vIn v i, e_sI h m 0 0) := by
  have w := w0.thr 0
  unfold f_X10_in Im.vIn
  simp only [w0.gI, w.o.is, w.isBand, Option.bind_some]
  cases q1 : c.isB v with
  | false => rfl
  | true =>
    cases q2 : c.isB i with
    | false => rfl
    | true =>
      obtain ⟨k1, rfl, h1⟩ := Im.isB_of q1 w.m8
      obtain ⟨k2, rfl, h2⟩ := Im.isB_of q2 w.m8
      have := w.m8
      have e : (nI k1 = nI k2) = (k1 = k2) := by rw [p_eq (by omega) (by omega)]
      simp only [w.o.liesIn (w.bs k1 h1) hF (w.bs k2 h2) (hp k1 h1) (hp k2 h2), Option.bind_some, Im.vB, nI_clamp (show k1 < 2 ^ 31 by omega), nI_clamp (show k2 < 2 ^ 31 by omega), ne_eq, e]
      cases (decide (¬ k1 = k2) && (c.bd k1).inside (c.bd k2)) <;> rfl
end
