/-! PURE LAYER 20: forms alike -/
noncomputable def pI (p : Prop) : Int32 := @ite Int32 p (Classical.propDecidable p) 1 0
theorem pI_t {p : Prop} (h : p) : pI p = 1 := by unfold pI; rw [if_pos h]
theorem pI_f {p : Prop} (h : ¬ p) : pI p = 0 := by unfold pI; rw [if_neg h]
theorem pI_iff {p q : Prop} (h : p ↔ q) : pI p = pI q := by rw [propext h]
theorem pI_v {p : Prop} {v : Int32} (h : v = 0 ∨ v = 1) (e : v = 1 ↔ p) : v = pI p := by
  rcases h with rfl | rfl
  · rw [pI_f]; intro z; exact absurd (e.mpr z) (by decide)
  · rw [pI_t (e.mp rfl)]
theorem Least.same {C : (Nat → Int32) → Prop} {N : Nat} {l l' : Nat → Int32} (h : Least C N l) (e : ∀ k, k < N → l' k = l k) : Least C N l' := by
  obtain ⟨⟨r, r1, r2⟩, h2⟩ := h
  exact ⟨⟨r, r1, fun k hk => (e k hk).trans (r2 k hk)⟩, fun s hs z => h2 s hs (z.congr (fun _ _ => rfl) e)⟩
def both (C D : (Nat → Int32) → Prop) (N : Nat) : Prop := ∃ l, Least C N l ∧ Least D N l
theorem both_iff {C D : (Nat → Int32) → Prop} {N : Nat} {l1 l2 : Nat → Int32} (h1 : Least C N l1) (h2 : Least D N l2) : both C D N ↔ ∀ k, k < N → l1 k = l2 k := by
  constructor
  · rintro ⟨l, a, b⟩ k hk
    have e1 := h1.eq a (fun r hr => ⟨r, hr, fun _ _ => rfl⟩) (fun r hr => ⟨r, hr, fun _ _ => rfl⟩) k hk
    have e2 := h2.eq b (fun r hr => ⟨r, hr, fun _ _ => rfl⟩) (fun r hr => ⟨r, hr, fun _ _ => rfl⟩) k hk
    rw [e1, e2]
  · intro e
    exact ⟨l1, h1, h2.same e⟩
def alikeP (P Q : Bd) (how : Nat) : Prop := P.n = Q.n ∧ both (setC P (ways how) 0) (setC Q (ways how) 0) (2 * P.n)
/-- rows of one way -/
def setW (P : Bd) (w : Nat) (r : Nat → Int32) : Prop := ∃ k, k < 2 * P.n ∧ r = rowC P w k
def evenP (P : Bd) (w : Nat) : Prop := both (setC P 1 0) (setW P w) (2 * P.n)
theorem setT_M (P : Bd) (q : Nat) (ov : Bool) (s : Nat → Int32) : setT P.n (tM P q ov) P.n s ↔ ∃ i fw, i < P.n ∧ s = rowM P q ov i fw := Iff.rfl
section
variable {m F : Nat} {S : St}
theorem rowM_small {P : Bd} (hP : P.fit) (h0 : 0 < P.n) {q : Nat} (hq : q < 4) (ov : Bool) : ∀ k fw j, k < P.n → j < 2 * P.n → ∃ z : Nat, z < 1000 ∧ tM P q ov (2 * ixM P.n k fw (j / 2) + j % 2) = nI z := by
  intro k fw j hk hj
  have := rowM_C hP h0 hq ov hk fw j hj
  unfold rowM at this
  rw [this]
  exact rowC_small hP h0 _ _ _
/-- the ways up to a quarter -/
def qTo (how q : Nat) (q' : Nat) (ov : Bool) : Prop := q' < q ∧ (ov = true → how = 2)
theorem layForm {h : e_H} (w : RM m h S) {b : Nat} (hb : b < S.c.m) (hP : (S.c.bd b).fit) (hF : 20 < F) {how : Nat} (hh : how < 3) :
    Ok (f_X10_layForm F h m (nI b) (nI how)) fun h' => MF (LW m) h h' ∧ Least (setC (S.c.bd b) (ways how) 0) (2 * (S.c.bd b).n) (e_I h' (m + 16)) ∧ ∀ j, j < 2 * (S.c.bd b).n → ∃ z : Nat, z < 1000 ∧ e_I h' (m + 16) j = nI z := by
  have g := w.view.bs b hb
  have hle := g.le
  have h0 := g.pos
  have hm := w.view.m8
  have hq : (if nI how = 0 then some (1 : Int32) else some 4) = some (nI (if how = 0 then 1 else 4)) := by
    have : how = 0 ∨ how = 1 ∨ how = 2 := by omega
    rcases this with rfl | rfl | rfl <;> rfl
  have hq4 : (if how = 0 then 1 else 4) ≤ 4 := by split <;> omega
  have hq1 : 1 ≤ (if how = 0 then 1 else 4) := by split <;> omega
  unfold f_X10_layForm
  refine Ok.bind (R := fun h' => MF (LW m) h h' ∧ Least (setC (S.c.bd b) (ways how) 0) (2 * (S.c.bd b).n) (e_I h' (m + 16)) ∧ ∀ j, j < 2 * (S.c.bd b).n → ∃ z : Nat, z < 1000 ∧ e_I h' (m + 16) j = nI z) ?_ fun h' z => Ok.ret z
  refine Ok.loopC2 (lp := lp_X10_layForm_2 F m (nI b) (nI how)) (fun q x h' => x = nI q ∧ MF (LW m) h h' ∧ (0 < q → Least (setM (S.c.bd b) (qTo how q)) (2 * (S.c.bd b).n) (e_I h' (m + 16)) ∧ ∀ j, j < 2 * (S.c.bd b).n → ∃ z : Nat, z < 1000 ∧ e_I h' (m + 16) j = nI z)) (if how = 0 then 1 else 4) (fun q x h' f hq' ⟨e, mf, r⟩ nx => ?_) (fun x h' f ⟨e, mf, r⟩ => ?_) (by omega) ⟨rfl, MF.rf _ h, fun z => by omega⟩
  · subst e
    have w' := w.mf mf (fun a j z => LW_MW z)
    have hle2 : (nI (if how = 0 then 1 else 4) ≤ nI q) = False := by rw [p_le (by omega) (by omega)]; simp; omega
    have hq'4 : q < 4 := by omega
    simp only [lp_X10_layForm_2, hq, Option.bind_some, hle2, if_false, w'.view.o.is]
    obtain ⟨h1, e1, mf1, t1⟩ := turnBand w' hb hF hq'4 false
    have e1 : f_X10_turnBand F h' m (nI b) (nI q) 0 = some h1 := e1
    have mf1' := mf.tr (mf1.mono (V := LW m) fun a j z => Or.inl z)
    have w1 := w.mf mf1' (fun a j z => LW_MW z)
    have g1 := w1.view.bs b hb
    have same1 : e_I h1 (m + 16) = e_I h' (m + 16) := funext fun j => mf1.I _ _ (by omega)
    have hfst : (if nI q = 0 then some (1 : Int32) else some 0) = some (if q = 0 then 1 else 0) := by
      by_cases z : q = 0
      · subst z; rfl
      · rw [if_neg (show ¬ nI q = 0 by rw [p_e0 (by omega)]; exact z), if_neg z]
    obtain ⟨h2, e2, mf2, l2, s2⟩ := leastRow w1 h0 hle hF t1 (rowM_small hP h0 hq'4 false) (C := setM (S.c.bd b) (qTo how q)) (fst := if q = 0 then 1 else 0) (by
      by_cases z : q = 0
      · subst z
        exact Or.inl ⟨rfl, fun s ⟨q1, ov, i, fw, hz, _⟩ => absurd hz.1 (by omega)⟩
      · rw [if_neg z, same1]
        exact Or.inr ⟨rfl, r (by omega)⟩)
    have mf2' := mf1'.tr (mf2.mono (V := LW m) fun a j z => Or.inr z)
    have w2 := w.mf mf2' (fun a j z => LW_MW z)
    rw [e1]
    simp only [Option.bind_some, w1.view.o.is, w1.view.o.fn g1, hfst, e2]
    by_cases h2' : how = 2
    · obtain ⟨h3, e3, mf3, t3⟩ := turnBand w2 hb hF hq'4 true
      have e3 : f_X10_turnBand F h2 m (nI b) (nI q) 1 = some h3 := e3
      have mf3' := mf2'.tr (mf3.mono (V := LW m) fun a j z => Or.inl z)
      have w3 := w.mf mf3' (fun a j z => LW_MW z)
      have g3 := w3.view.bs b hb
      have same3 : e_I h3 (m + 16) = e_I h2 (m + 16) := funext fun j => mf3.I _ _ (by omega)
      rw [← same3] at l2 s2
      obtain ⟨h4, e4, mf4, l4, s4⟩ := leastRow w3 h0 hle hF t3 (rowM_small hP h0 hq'4 true) (fst := 0) (Or.inr ⟨rfl, l2, s2⟩)
      have e22 : (2 : Int32) ≤ nI how := by rw [h2']; exact Int32.le_refl _
      simp only [e22, if_true, w2.view.o.is, e3, w3.view.o.is, w3.view.o.fn g3, e4, Option.bind_some, ← nI_succ]
      refine nx _ _ ⟨rfl, mf3'.tr (mf4.mono (V := LW m) fun a j z => Or.inr z), fun _ => ⟨l4.iff fun s => ?_, s4⟩⟩
      constructor
      · rintro ⟨q1, ov, i, fw, ⟨z1, z2⟩, hi, rfl⟩
        by_cases y : q1 = q
        · subst y
          cases ov
          · exact Or.inl (Or.inr ⟨i, fw, hi, rfl⟩)
          · exact Or.inr ⟨i, fw, hi, rfl⟩
        · exact Or.inl (Or.inl ⟨q1, ov, i, fw, ⟨by omega, z2⟩, hi, rfl⟩)
      · rintro ((⟨q1, ov, i, fw, ⟨z1, z2⟩, hi, rfl⟩ | ⟨i, fw, hi, rfl⟩) | ⟨i, fw, hi, rfl⟩)
        · exact ⟨q1, ov, i, fw, ⟨by omega, z2⟩, hi, rfl⟩
        · exact ⟨q, false, i, fw, ⟨by omega, fun z => by cases z⟩, hi, rfl⟩
        · exact ⟨q, true, i, fw, ⟨by omega, fun _ => h2'⟩, hi, rfl⟩
    · have e22 : ¬ (2 : Int32) ≤ nI how := by
        rw [show (2 : Int32) = nI 2 from rfl, p_le (by omega) (by omega)]; omega
      simp only [e22, if_false, Option.bind_some, ← nI_succ]
      refine nx _ _ ⟨rfl, mf2', fun _ => ⟨l2.iff fun s => ?_, s2⟩⟩
      constructor
      · rintro ⟨q1, ov, i, fw, ⟨z1, z2⟩, hi, rfl⟩
        cases ov with
        | true => exact absurd (z2 rfl) h2'
        | false =>
          by_cases y : q1 = q
          · subst y; exact Or.inr ⟨i, fw, hi, rfl⟩
          · exact Or.inl ⟨q1, false, i, fw, ⟨by omega, z2⟩, hi, rfl⟩
      · rintro (⟨q1, ov, i, fw, ⟨z1, z2⟩, hi, rfl⟩ | ⟨i, fw, hi, rfl⟩)
        · exact ⟨q1, ov, i, fw, ⟨by omega, z2⟩, hi, rfl⟩
        · exact ⟨q, false, i, fw, ⟨by omega, fun z => by cases z⟩, hi, rfl⟩
  · subst e
    simp only [lp_X10_layForm_2, hq, Option.bind_some, Int32.le_refl, if_true]
    obtain ⟨l, s⟩ := r (by omega)
    exact Ok.ret ⟨mf, setM_C hP h0 hh l, s⟩
/-- rows of the model kept aside -/
theorem copyOther {h : e_H} (w : RM m h S) (hF : 20 < F) (lp : Nat → Int32 → e_H → Option e_H) (hlp : lp = lp_X10_areAlike_24 F m ∨ lp = lp_X10_isSame_9 F m) :
    Ok (lp F 0 h) fun h' => MF (fun a _ => a = m + 17) h h' ∧ ∀ j, j < 16 → e_I h' (m + 17) j = e_I h (m + 16) j := by
  refine Ok.loopC2 (lp := lp) (fun k x h' => x = nI k ∧ MF (fun a _ => a = m + 17) h h' ∧ ∀ j, j < k → e_I h' (m + 17) j = e_I h (m + 16) j) 16 (fun k x h' f hk ⟨e, mf, r⟩ nx => ?_) (fun x h' f ⟨e, mf, r⟩ => ?_) (by omega) ⟨rfl, MF.rf _ h, fun j hj => by omega⟩
  · subst e
    have w' := w.mf mf (fun a j z => by unfold MW; omega)
    have hle : ((16 : Int32) ≤ nI k) = False := by rw [show (16 : Int32) = nI 16 from rfl, p_le (by omega) (by omega)]; simp; omega
    have r0 : e_aI h' (m + 1 + 15) 0 (nI k) = some (e_I h (m + 16) k) := by
      rw [p_aI (w'.kk 15 30 0 16 rfl) (by omega) (by decide), mf.I _ _ (by omega)]
    have kw := p_wI' (w'.kk 16 31 0 16 rfl) (rfl : nI k = nI k) (by omega) (by decide) (e_I h (m + 16) k)
    rcases hlp with rfl | rfl
    · simp only [lp_X10_areAlike_24, hle, if_false, Option.bind_some, w'.f0 15 30 0 16 rfl, w'.f0 16 31 0 16 rfl, r0, kw, ← nI_succ]
      refine nx _ _ ⟨rfl, mf.sI _ (by omega), fun j hj => ?_⟩
      rw [e_I_sI]
      by_cases z : j = k
      · rw [if_pos ⟨by omega, z⟩, z]
      · rw [if_neg (fun y => z y.2)]; exact r j (by omega)
    · simp only [lp_X10_isSame_9, hle, if_false, Option.bind_some, w'.f0 15 30 0 16 rfl, w'.f0 16 31 0 16 rfl, r0, kw, ← nI_succ]
      refine nx _ _ ⟨rfl, mf.sI _ (by omega), fun j hj => ?_⟩
      rw [e_I_sI]
      by_cases z : j = k
      · rw [if_pos ⟨by omega, z⟩, z]
      · rw [if_neg (fun y => z y.2)]; exact r j (by omega)
  · subst e
    rcases hlp with rfl | rfl
    · simp only [lp_X10_areAlike_24, show (16 : Int32) ≤ nI 16 from Int32.le_refl _, if_true]
      exact Ok.ret ⟨mf, r⟩
    · simp only [lp_X10_isSame_9, show (16 : Int32) ≤ nI 16 from Int32.le_refl _, if_true]
      exact Ok.ret ⟨mf, r⟩
/-- the rows' places and the one kept aside -/
def LW2 (m a j : Nat) : Prop := m + 14 ≤ a ∧ a ≤ m + 17
theorem LW2_MW {m a j : Nat} (h : LW2 m a j) : MW m a j := by unfold LW2 at h; unfold MW; omega
theorem LW_LW2 {m a j : Nat} (h : LW m a j) : LW2 m a j := by unfold LW at h; unfold LW2; omega
theorem areAlikeM {h : e_H} (w : RM m h S) {a b : Nat} (ha : a < S.c.m) (hb : b < S.c.m) (hP : (S.c.bd a).fit) (hQ : (S.c.bd b).fit) (hF : 20 < F) {how : Nat} (hh : how < 3) :
    Ok (f_X10_areAlike F h m (nI a) (nI b) (nI how)) fun z => MF (LW2 m) h z.2 ∧ z.1 = pI (alikeP (S.c.bd a) (S.c.bd b) how) := by
  have g := w.view.bs a ha
  have g2 := w.view.bs b hb
  have hle := g.le
  have hle2 := g2.le
  unfold f_X10_areAlike
  refine Ok.is w.sh.1 (Ok.eq (w.view.o.fn g) (Ok.eq (w.view.o.fn g2) (Ok.ite (fun hc => ?_) (fun hc => ?_))))
  · have hn : (S.c.bd a).n = (S.c.bd b).n := p_inj (by omega) (by omega) hc
    refine Ok.bind (layForm w ha hP hF hh) fun h1 ⟨mf1, l1, s1⟩ => ?_
    have mf1' := mf1.mono (V := LW2 m) fun a j z => LW_LW2 z
    have w1 := w.mf mf1' (fun a j z => LW2_MW z)
    refine Ok.bind (copyOther w1 hF _ (Or.inl rfl)) fun h2 ⟨mf2, r2⟩ => ?_
    have mf2' := mf1'.tr (mf2.mono (V := LW2 m) fun a j z => by unfold LW2; omega)
    have w2 := w.mf mf2' (fun a j z => LW2_MW z)
    refine Ok.is w2.sh.1 (Ok.bind (layForm w2 hb hQ hF hh) fun h3 ⟨mf3, l3, s3⟩ => ?_)
    have mf3' := mf2'.tr (mf3.mono (V := LW2 m) fun a j z => LW_LW2 z)
    have w3 := w.mf mf3' (fun a j z => LW2_MW z)
    refine Ok.eq (w3.f0 16 31 0 16 rfl) (Ok.eq (w3.f0 15 30 0 16 rfl) (Ok.eq (w3.view.o.fn (w3.view.bs a ha)) ?_))
    have same : ∀ j, j < 16 → e_I h3 (m + 17) j = e_I h1 (m + 16) j := fun j hj => by rw [mf3.I _ _ (by unfold LW; omega)]; exact r2 j hj
    obtain ⟨v, hv1, -, hv3⟩ := f_compare (F := F) (N := 2 * (S.c.bd a).n) (h := h3) (p := m + 1 + 16) (q := m + 1 + 15) (a := e_I h1 (m + 16)) (b := e_I h3 (m + 16)) (by omega) (by omega) (fun j hj => p_aI' (w3.kk 16 31 0 16 rfl) (by omega) (by decide) (same j (by omega))) (fun j hj => p_aI' (w3.kk 15 30 0 16 rfl) (by omega) (by decide) rfl) s1 (fun j hj => s3 j (by omega))
    rw [i_2i]
    refine Ok.eq hv1 ?_
    rw [← hn] at l3
    have hb := both_iff l1 l3
    refine Ok.ite (fun hz => Ok.ret ⟨mf3', ?_⟩) (fun hz => Ok.ret ⟨mf3', ?_⟩)
    · exact (pI_t ⟨hn, hb.mpr (hv3.mp hz)⟩).symm
    · exact (pI_f fun y => hz (hv3.mpr (hb.mp y.2))).symm
  · refine Ok.ret ⟨MF.rf _ h, (pI_f fun y => hc ?_).symm⟩
    rw [y.1]
theorem isSameM {h : e_H} (w : RM m h S) {b : Nat} (hb : b < S.c.m) (hP : (S.c.bd b).fit) (hF : 20 < F) {q : Nat} (hq : q < 4) (ov : Bool) :
    Ok (f_X10_isSame F h m (nI b) (nI q) (b2i ov)) fun z => MF (LW2 m) h z.2 ∧ z.1 = pI (evenP (S.c.bd b) (wayOf q ov)) := by
  have g := w.view.bs b hb
  have hle := g.le
  have h0 := g.pos
  unfold f_X10_isSame
  refine Ok.is w.sh.1 (Ok.bind (layForm w hb hP hF (show 0 < 3 by decide)) fun h1 ⟨mf1, l1, s1⟩ => ?_)
  have mf1' := mf1.mono (V := LW2 m) fun a j z => LW_LW2 z
  have w1 := w.mf mf1' (fun a j z => LW2_MW z)
  refine Ok.bind (copyOther w1 hF _ (Or.inr rfl)) fun h2 ⟨mf2, r2⟩ => ?_
  have mf2' := mf1'.tr (mf2.mono (V := LW2 m) fun a j z => by unfold LW2; omega)
  have w2 := w.mf mf2' (fun a j z => LW2_MW z)
  refine Ok.is w2.sh.1 (Ok.bind (turnBand w2 hb hF hq ov) fun h3 ⟨mf3, t3⟩ => ?_)
  have mf3' := mf2'.tr (mf3.mono (V := LW2 m) fun a j z => by unfold LW2; omega)
  have w3 := w.mf mf3' (fun a j z => LW2_MW z)
  refine Ok.is w3.sh.1 (Ok.eq (w3.view.o.fn (w3.view.bs b hb)) (Ok.bind (leastRow w3 h0 hle hF t3 (rowM_small hP h0 hq ov) (C := fun _ => False) (fst := 1) (Or.inl ⟨rfl, fun _ => id⟩)) fun h4 ⟨mf4, l4, s4⟩ => ?_))
  have mf4' := mf3'.tr (mf4.mono (V := LW2 m) fun a j z => by unfold LW2; omega)
  have w4 := w.mf mf4' (fun a j z => LW2_MW z)
  refine Ok.eq (w4.f0 16 31 0 16 rfl) (Ok.eq (w4.f0 15 30 0 16 rfl) (Ok.eq (w4.view.o.fn (w4.view.bs b hb)) ?_))
  have same : ∀ j, j < 16 → e_I h4 (m + 17) j = e_I h1 (m + 16) j := fun j hj => by rw [mf4.I _ _ (by omega), mf3.I _ _ (by omega)]; exact r2 j hj
  obtain ⟨v, hv1, -, hv3⟩ := f_compare (F := F) (N := 2 * (S.c.bd b).n) (h := h4) (p := m + 1 + 16) (q := m + 1 + 15) (a := e_I h1 (m + 16)) (b := e_I h4 (m + 16)) (by omega) (by omega) (fun j hj => p_aI' (w4.kk 16 31 0 16 rfl) (by omega) (by decide) (same j (by omega))) (fun j hj => p_aI' (w4.kk 15 30 0 16 rfl) (by omega) (by decide) rfl) s1 s4
  rw [i_2i]
  refine Ok.eq hv1 ?_
  have l5 : Least (setW (S.c.bd b) (wayOf q ov)) (2 * (S.c.bd b).n) (e_I h4 (m + 16)) := by
    obtain ⟨⟨r, r1, r2⟩, hl⟩ := l4
    refine ⟨?_, ?_⟩
    · rcases r1 with z | ⟨i, fw, hi, rfl⟩
      · exact z.elim
      · refine ⟨rowC (S.c.bd b) (wayOf q ov) (if fw = true then i else (S.c.bd b).n + i), ⟨_, ?_, rfl⟩, fun k hk => (r2 k hk).trans (rowM_C hP h0 hq ov hi fw k hk)⟩
        cases fw <;> simp <;> omega
    · rintro s ⟨k, hk, rfl⟩ z
      by_cases y : k < (S.c.bd b).n
      · refine hl _ (Or.inr ⟨k, true, y, rfl⟩) (z.congr (fun j hj => ?_) fun _ _ => rfl)
        exact (rowM_C hP h0 hq ov y true j hj).symm
      · refine hl _ (Or.inr ⟨k - (S.c.bd b).n, false, by omega, rfl⟩) (z.congr (fun j hj => ?_) fun _ _ => rfl)
        have := rowM_C hP h0 hq ov (i := k - (S.c.bd b).n) (by omega) false j hj
        rw [if_neg (by decide), show (S.c.bd b).n + (k - (S.c.bd b).n) = k by omega] at this
        exact this.symm
  have hb := both_iff l1 l5
  refine Ok.ite (fun hz => Ok.ret ⟨mf4', ?_⟩) (fun hz => Ok.ret ⟨mf4', ?_⟩)
  · exact (pI_t (hb.mpr (hv3.mp hz))).symm
  · exact (pI_f fun y => hz (hv3.mpr (hb.mp y))).symm
end
