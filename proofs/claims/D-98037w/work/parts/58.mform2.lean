/-! PURE LAYER 19: the model's forms, laid -/
theorem mXY_s {i : Nat} (h : i < 3) (ov : Bool) (x y : Int32) : mX (i + 1) ov x y = -(mY i ov x y) ∧ mY (i + 1) ov x y = mX i ov x y := by
  have : i = 0 ∨ i = 1 ∨ i = 2 := by omega
  rcases this with rfl | rfl | rfl <;> exact ⟨rfl, rfl⟩
theorem turn63 {F q : Nat} (hF : 20 < F) (hq : q < 4) (ov : Bool) (x y : Int32) : lp_X10_turnBand_63 F (nI q) F (mX 0 ov x y) (mY 0 ov x y) 0 = some (mX q ov x y, mY q ov x y) := by
  refine lp_all3 (lp := lp_X10_turnBand_63 F (nI q)) (fun i => mX i ov x y) (fun i => mY i ov x y) nI q _ (fun i hi f => ?_) (fun f => ?_) (by omega)
  · have hle : (nI q ≤ nI i) = False := by rw [p_le (by omega) (by omega)]; simp; omega
    obtain ⟨e1, e2⟩ := mXY_s (i := i) (by omega) ov x y
    simp only [lp_X10_turnBand_63, hle, if_false, Option.bind_some, ← nI_succ, e1, e2]
  · simp only [lp_X10_turnBand_63, Int32.le_refl, if_true]
/-- the rows' places in the model -/
def LW (m a j : Nat) : Prop := a = m + 14 ∨ a = m + 15 ∨ a = m + 16
theorem LW_MW {m a j : Nat} (h : LW m a j) : MW m a j := by unfold LW at h; unfold MW; omega
theorem p_wI' {h : e_H} {a n j : Nat} {i : Int32} (hk : e_k h a = some (.inr (0, n))) (hi : i = nI j) (hj : j < n) (hn : n < 2 ^ 31) (v : Int32) : e_wI h a 0 i v = some (e_sI h a j v) := by rw [hi, p_wI hk hj hn]
theorem i_2i (i : Nat) : (2 : Int32) * nI i = nI (2 * i) := p_mul 2 i
theorem i_2i1 (i : Nat) : (2 : Int32) * nI i + 1 = nI (2 * i + 1) := by rw [i_2i, nI_succ]
section
variable {m F : Nat} {S : St}
theorem turnBand {h : e_H} (w : RM m h S) {b : Nat} (hb : b < S.c.m) (hF : 20 < F) {q : Nat} (hq : q < 4) (ov : Bool) :
    Ok (f_X10_turnBand F h m (nI b) (nI q) (b2i ov)) fun h' => MF (fun a _ => a = m + 14) h h' ∧ ∀ j, j < 2 * (S.c.bd b).n → e_I h' (m + 14) j = tM (S.c.bd b) q ov j := by
  have g := w.view.bs b hb
  have hle := g.le
  obtain ⟨P, hP⟩ : ∃ P, P = S.c.bd b := ⟨_, rfl⟩
  rw [← hP] at g hle ⊢
  unfold f_X10_turnBand
  refine Ok.is w.sh.1 (Ok.eq (w.view.o.fn g) (Ok.bind (R := fun z => MF (fun a _ => a = m + 14) h z.2.2 ∧ z.1 = lowMX P q ov ∧ z.2.1 = lowMY P q ov ∧ ∀ j, j < 2 * P.n → e_I z.2.2 (m + 14) j = (if j % 2 = 0 then mX q ov (P.x (j / 2)) (P.y (j / 2)) else mY q ov (P.x (j / 2)) (P.y (j / 2)))) ?_ fun z hz => ?_))
  · refine Ok.loopC4 (lp := lp_X10_turnBand_20 F m (nI b) (nI q) (b2i ov) (nI P.n)) (fun i u v x h' => x = nI i ∧ MF (fun a _ => a = m + 14) h h' ∧ u = minTo 999 (fun i => mX q ov (P.x i) (P.y i)) i ∧ v = minTo 999 (fun i => mY q ov (P.x i) (P.y i)) i ∧ ∀ j, j < 2 * i → e_I h' (m + 14) j = (if j % 2 = 0 then mX q ov (P.x (j / 2)) (P.y (j / 2)) else mY q ov (P.x (j / 2)) (P.y (j / 2)))) P.n (fun i u v x h' f hi ⟨e, mf, e1, e2, r⟩ nx => ?_) (fun u v x h' f ⟨e, mf, e1, e2, r⟩ => ?_) (by omega) ⟨rfl, MF.rf _ h, rfl, rfl, fun j hj => by omega⟩
    · subst e
      have w' := w.mf mf (fun a j z => LW_MW (j := j) (Or.inl z))
      have g' := w'.view.bs b hb
      rw [← hP] at g'
      have o' := w'.view.o
      have kw := p_wI' (w'.kk 13 28 0 16 rfl) (i_2i i) (by omega) (by decide) (mX q ov (P.x i) (P.y i))
      obtain ⟨h1, hh1⟩ : ∃ z, z = e_sI h' (m + 1 + 13) (2 * i) (mX q ov (P.x i) (P.y i)) := ⟨_, rfl⟩
      rw [← hh1] at kw
      have mf1 : MF (fun a _ => a = m + 14) h h1 := by rw [hh1]; exact mf.sI _ (by omega)
      have w1 := w.mf mf1 (fun a j z => LW_MW (j := j) (Or.inl z))
      have kw1 := p_wI' (w1.kk 13 28 0 16 rfl) (i_2i1 i) (by omega) (by decide) (mY q ov (P.x i) (P.y i))
      have e0 : (if b2i ov = 0 then Option.bind (e_is h' m 8) (fun _ => Option.bind (f_X10_x h' m (nI b) (nI i)) (fun x46 => some x46)) else Option.bind (e_is h' m 8) (fun _ => Option.bind (f_X10_x h' m (nI b) (nI i)) (fun x35 => some (-x35)))) = some (mX 0 ov (P.x i) (P.y i)) := by
        simp only [o'.is, o'.x0 g' hi, Option.bind_some]
        cases ov <;> rfl
      have e0' : P.y i = mY 0 ov (P.x i) (P.y i) := rfl
      have hlt : nI i < nI P.n := by rw [p_lt (by omega) (by omega)]; exact hi
      simp only [lp_X10_turnBand_20, i_nle, hlt, not_true_eq_false, if_false]
      rw [e0]
      simp only [Option.bind_some, o'.is, o'.y0 g' hi]
      rw [show lp_X10_turnBand_63 F (nI q) F (mX 0 ov (P.x i) (P.y i)) (P.y i) 0 = _ from turn63 hF hq ov (P.x i) (P.y i)]
      simp only [Option.bind_some, u2_s, w'.f0 13 28 0 16 rfl, kw, w1.f0 13 28 0 16 rfl, kw1, ← nI_succ, e1, e2]
      have ea : (if ¬mX q ov (P.x i) (P.y i) < minTo 999 (fun i => mX q ov (P.x i) (P.y i)) i then some (minTo 999 (fun i => mX q ov (P.x i) (P.y i)) i) else some (mX q ov (P.x i) (P.y i))) = some (minTo 999 (fun i => mX q ov (P.x i) (P.y i)) (i + 1)) := by
        simp only [minTo]; split <;> rename_i z <;> simp [z]
      have eb : (if ¬mY q ov (P.x i) (P.y i) < minTo 999 (fun i => mY q ov (P.x i) (P.y i)) i then some (minTo 999 (fun i => mY q ov (P.x i) (P.y i)) i) else some (mY q ov (P.x i) (P.y i))) = some (minTo 999 (fun i => mY q ov (P.x i) (P.y i)) (i + 1)) := by
        simp only [minTo]; split <;> rename_i z <;> simp [z]
      rw [ea, eb]
      refine nx _ _ _ _ ⟨rfl, mf1.sI _ (by omega), rfl, rfl, fun j hj => ?_⟩
      rw [e_I_sI]
      by_cases z : j = 2 * i + 1
      · rw [if_pos ⟨by omega, z⟩, z, if_neg (by omega), show (2 * i + 1) / 2 = i by omega]
      · rw [if_neg (fun y => z y.2), hh1, e_I_sI]
        by_cases z2 : j = 2 * i
        · rw [if_pos ⟨by omega, z2⟩, z2, if_pos (by omega), show 2 * i / 2 = i by omega]
        · rw [if_neg (fun y => z2 y.2)]
          exact r j (by omega)
    · subst e
      simp only [lp_X10_turnBand_20, Int32.le_refl, if_true]
      exact Ok.ret ⟨mf, e1, e2, r⟩
  · obtain ⟨u, v, h1⟩ := z
    obtain ⟨mf, e1, e2, r⟩ := hz
    simp only at mf e1 e2 r
    simp only [e_u3]
    subst e1 e2
    refine Ok.bind (R := fun h' => MF (fun a _ => a = m + 14) h h' ∧ ∀ j, j < 2 * P.n → e_I h' (m + 14) j = tM P q ov j) ?_ fun h' hq => Ok.ret hq
    refine Ok.loopC2 (lp := lp_X10_turnBand_153 F m (nI P.n) (lowMX P q ov) (lowMY P q ov)) (fun i x h' => x = nI i ∧ MF (fun a _ => a = m + 14) h h' ∧ ∀ j, j < 2 * P.n → e_I h' (m + 14) j = if j < 2 * i then tM P q ov j else (if j % 2 = 0 then mX q ov (P.x (j / 2)) (P.y (j / 2)) else mY q ov (P.x (j / 2)) (P.y (j / 2)))) P.n (fun i x h' f hi ⟨e, mf, r⟩ nx => ?_) (fun x h' f ⟨e, mf, r⟩ => ?_) (by omega) ⟨rfl, mf, fun j hj => by rw [if_neg (by omega)]; exact r j hj⟩
    · subst e
      have w' := w.mf mf (fun a j z => LW_MW (j := j) (Or.inl z))
      have k' := w'.kk 13 28 0 16 rfl
      have r0 : e_aI h' (m + 1 + 13) 0 (2 * nI i) = some (mX q ov (P.x i) (P.y i)) := by
        rw [i_2i, p_aI k' (by omega) (by decide), show m + 1 + 13 = m + 14 by omega, r (2 * i) (by omega), if_neg (by omega), if_pos (by omega), show 2 * i / 2 = i by omega]
      have kw := p_wI' k' (i_2i i) (by omega) (by decide) (mX q ov (P.x i) (P.y i) - lowMX P q ov)
      obtain ⟨h2, hh2⟩ : ∃ z, z = e_sI h' (m + 1 + 13) (2 * i) (mX q ov (P.x i) (P.y i) - lowMX P q ov) := ⟨_, rfl⟩
      rw [← hh2] at kw
      have mf2 : MF (fun a _ => a = m + 14) h h2 := by rw [hh2]; exact mf.sI _ (by omega)
      have w2 := w.mf mf2 (fun a j z => LW_MW (j := j) (Or.inl z))
      have k2 := w2.kk 13 28 0 16 rfl
      have r1 : e_aI h2 (m + 1 + 13) 0 (2 * nI i + 1) = some (mY q ov (P.x i) (P.y i)) := by
        rw [i_2i1, p_aI k2 (by omega) (by decide), hh2, e_I_sI, if_neg (by omega), show m + 1 + 13 = m + 14 by omega, r (2 * i + 1) (by omega), if_neg (by omega), if_neg (by omega), show (2 * i + 1) / 2 = i by omega]
      have kw1 := p_wI' k2 (i_2i1 i) (by omega) (by decide) (mY q ov (P.x i) (P.y i) - lowMY P q ov)
      simp only [lp_X10_turnBand_153, g.nle hi, if_false, Option.bind_some, w'.f0 13 28 0 16 rfl, r0, kw, w2.f0 13 28 0 16 rfl, r1, kw1, ← nI_succ]
      refine nx _ _ ⟨rfl, mf2.sI _ (by omega), fun j hj => ?_⟩
      rw [e_I_sI]
      by_cases z : j = 2 * i + 1
      · rw [if_pos ⟨by omega, z⟩, if_pos (by omega), z]
        unfold tM
        rw [if_neg (by omega), show (2 * i + 1) / 2 = i by omega]
      · rw [if_neg (fun y => z y.2), hh2, e_I_sI]
        by_cases z2 : j = 2 * i
        · rw [if_pos ⟨by omega, z2⟩, if_pos (by omega), z2]
          unfold tM
          rw [if_pos (by omega), show 2 * i / 2 = i by omega]
        · rw [if_neg (fun y => z2 y.2), r j hj]
          by_cases z3 : j < 2 * i
          · rw [if_pos z3, if_pos (show j < 2 * (i + 1) by omega)]
          · rw [if_neg z3, if_neg (show ¬ j < 2 * (i + 1) by omega)]
    · subst e
      simp only [lp_X10_turnBand_153, Int32.le_refl, if_true]
      exact Ok.ret ⟨mf, fun j hj => by rw [r j hj, if_pos hj]⟩
/-- a row laid out of the turned band -/
theorem layRow {h : e_H} (w : RM m h S) {n : Nat} (h0 : 0 < n) (h8 : n ≤ 8) (hF : 20 < F) {i : Nat} (hi : i < n) (fw : Bool) {t : Nat → Int32} (ht : ∀ j, j < 2 * n → e_I h (m + 14) j = t j) :
    Ok (lp_X10_leastRow_23 F m (nI n) (nI i) (if fw = true then 1 else -1) F 0 h) fun h' => MF (fun a _ => a = m + 15) h h' ∧ ∀ j, j < 2 * n → e_I h' (m + 15) j = t (2 * ixM n i fw (j / 2) + j % 2) := by
  refine Ok.loopC2 (lp := lp_X10_leastRow_23 F m (nI n) (nI i) (if fw = true then 1 else -1)) (fun k x h' => x = nI k ∧ MF (fun a _ => a = m + 15) h h' ∧ ∀ j, j < 2 * k → e_I h' (m + 15) j = t (2 * ixM n i fw (j / 2) + j % 2)) n (fun k x h' f hk ⟨e, mf, r⟩ nx => ?_) (fun x h' f ⟨e, mf, r⟩ => ?_) (by omega) ⟨rfl, MF.rf _ h, fun j hj => by omega⟩
  · subst e
    have w' := w.mf mf (fun a j z => LW_MW (j := j) (Or.inr (Or.inl z)))
    have hx := ixM_lt (n := n) (i := i) (k := k) h0 fw
    have hle : (nI n ≤ nI k) = False := by rw [p_le (by omega) (by omega)]; simp; omega
    have n0 : ¬ nI n = 0 := by rw [p_e0 (by omega)]; omega
    have ec : nI i + (if fw = true then 1 else -1) * nI k + nI n - (nI i + (if fw = true then 1 else -1) * nI k + nI n) / nI n * nI n = nI (ixM n i fw k) := by
      cases fw with
      | true =>
        simp only [if_true, Int32.one_mul, p_add, pk_rem (show i + k + n < 2 ^ 31 by omega) h0 (show n < 2 ^ 31 by omega), ixM]
        rw [Nat.add_mod_right]
      | false =>
        have : nI i + -1 * nI k + nI n = nI (i + n - k) := by
          simp only [iI_nI, show (-1 : Int32) = iI (-1) from rfl, iI_mul, iI_add]
          congr 1; omega
        simp only [Bool.false_eq_true, if_false, this, pk_rem (show i + n - k < 2 ^ 31 by omega) h0 (show n < 2 ^ 31 by omega), ixM]
    have same : ∀ j, j < 2 * n → e_I h' (m + 14) j = t j := fun j hj => by rw [mf.I _ _ (by omega)]; exact ht j hj
    have k14 := w'.kk 13 28 0 16 rfl
    have k15 := w'.kk 14 29 0 16 rfl
    have r0 : e_aI h' (m + 1 + 13) 0 (2 * nI (ixM n i fw k)) = some (t (2 * ixM n i fw k)) := by
      rw [i_2i, p_aI k14 (by omega) (by decide), show m + 1 + 13 = m + 14 by omega, same _ (by omega)]
    have kw := p_wI' k15 (i_2i k) (by omega) (by decide) (t (2 * ixM n i fw k))
    obtain ⟨h1, hh1⟩ : ∃ z, z = e_sI h' (m + 1 + 14) (2 * k) (t (2 * ixM n i fw k)) := ⟨_, rfl⟩
    rw [← hh1] at kw
    have mf1 : MF (fun a _ => a = m + 15) h h1 := by rw [hh1]; exact mf.sI _ (by omega)
    have w1 := w.mf mf1 (fun a j z => LW_MW (j := j) (Or.inr (Or.inl z)))
    have same1 : ∀ j, j < 2 * n → e_I h1 (m + 14) j = t j := fun j hj => by rw [mf1.I _ _ (by omega)]; exact ht j hj
    have r1 : e_aI h1 (m + 1 + 13) 0 (2 * nI (ixM n i fw k) + 1) = some (t (2 * ixM n i fw k + 1)) := by
      rw [i_2i1, p_aI (w1.kk 13 28 0 16 rfl) (by omega) (by decide), show m + 1 + 13 = m + 14 by omega, same1 _ (by omega)]
    have kw1 := p_wI' (w1.kk 14 29 0 16 rfl) (i_2i1 k) (by omega) (by decide) (t (2 * ixM n i fw k + 1))
    simp only [lp_X10_leastRow_23, hle, n0, if_false, ec, Option.bind_some, w'.f0 13 28 0 16 rfl, w'.f0 14 29 0 16 rfl, r0, kw, w1.f0 13 28 0 16 rfl, w1.f0 14 29 0 16 rfl, r1, kw1, ← nI_succ]
    refine nx _ _ ⟨rfl, mf1.sI _ (by omega), fun j hj => ?_⟩
    rw [e_I_sI]
    by_cases z : j = 2 * k + 1
    · rw [if_pos ⟨by omega, z⟩, z, show (2 * k + 1) / 2 = k by omega, show (2 * k + 1) % 2 = 1 by omega]
    · rw [if_neg (fun y => z y.2), hh1, e_I_sI]
      by_cases z2 : j = 2 * k
      · rw [if_pos ⟨by omega, z2⟩, z2, show 2 * k / 2 = k by omega, show 2 * k % 2 = 0 by omega, Nat.add_zero]
      · rw [if_neg (fun y => z2 y.2)]
        exact r j (by omega)
  · subst e
    simp only [lp_X10_leastRow_23, Int32.le_refl, if_true]
    exact Ok.ret ⟨mf, r⟩
/-- the row becomes the least -/
theorem copyLeast {h : e_H} (w : RM m h S) {n : Nat} (h8 : n ≤ 8) (hF : 20 < F) :
    Ok (lp_X10_leastRow_118 F m (nI n) F 0 h) fun h' => MF (fun a _ => a = m + 16) h h' ∧ ∀ j, j < 2 * n → e_I h' (m + 16) j = e_I h (m + 15) j := by
  refine Ok.loopC2 (lp := lp_X10_leastRow_118 F m (nI n)) (fun k x h' => x = nI k ∧ MF (fun a _ => a = m + 16) h h' ∧ ∀ j, j < k → e_I h' (m + 16) j = e_I h (m + 15) j) (2 * n) (fun k x h' f hk ⟨e, mf, r⟩ nx => ?_) (fun x h' f ⟨e, mf, r⟩ => ?_) (by omega) ⟨rfl, MF.rf _ h, fun j hj => by omega⟩
  · subst e
    have w' := w.mf mf (fun a j z => LW_MW (j := j) (Or.inr (Or.inr z)))
    have hle : (nI (2 * n) ≤ nI k) = False := by rw [p_le (by omega) (by omega)]; simp; omega
    have r0 : e_aI h' (m + 1 + 14) 0 (nI k) = some (e_I h (m + 15) k) := by
      rw [p_aI (w'.kk 14 29 0 16 rfl) (by omega) (by decide), mf.I _ _ (by omega)]
    have kw := p_wI' (w'.kk 15 30 0 16 rfl) (rfl : nI k = nI k) (by omega) (by decide) (e_I h (m + 15) k)
    simp only [lp_X10_leastRow_118, i_2i, hle, if_false, Option.bind_some, w'.f0 14 29 0 16 rfl, w'.f0 15 30 0 16 rfl, r0, kw, ← nI_succ]
    refine nx _ _ ⟨rfl, mf.sI _ (by omega), fun j hj => ?_⟩
    rw [e_I_sI]
    by_cases z : j = k
    · rw [if_pos ⟨by omega, z⟩, z]
    · rw [if_neg (fun y => z y.2)]; exact r j (by omega)
  · subst e
    simp only [lp_X10_leastRow_118, i_2i, Int32.le_refl, if_true]
    exact Ok.ret ⟨mf, r⟩
/-- rows of the turned band, up to a start -/
def setT (n : Nat) (t : Nat → Int32) (i : Nat) (r : Nat → Int32) : Prop := ∃ k fw, k < i ∧ r = fun j => t (2 * ixM n k fw (j / 2) + j % 2)
theorem leastRow {h : e_H} (w : RM m h S) {n : Nat} (h0 : 0 < n) (h8 : n ≤ 8) (hF : 20 < F) {t : Nat → Int32} (ht : ∀ j, j < 2 * n → e_I h (m + 14) j = t j)
    (st : ∀ k fw j, k < n → j < 2 * n → ∃ z : Nat, z < 1000 ∧ t (2 * ixM n k fw (j / 2) + j % 2) = nI z) {C : (Nat → Int32) → Prop} {fst : Int32}
    (hf : (fst = 1 ∧ ∀ s, ¬ C s) ∨ (fst = 0 ∧ Least C (2 * n) (e_I h (m + 16)) ∧ ∀ j, j < 2 * n → ∃ z : Nat, z < 1000 ∧ e_I h (m + 16) j = nI z)) :
    Ok (f_X10_leastRow F h m (nI n) fst) fun h' => MF (fun a _ => a = m + 15 ∨ a = m + 16) h h' ∧ Least (fun s => C s ∨ setT n t n s) (2 * n) (e_I h' (m + 16)) ∧ ∀ j, j < 2 * n → ∃ z : Nat, z < 1000 ∧ e_I h' (m + 16) j = nI z := by
  have WW : ∀ a j, (fun a _ => a = m + 15 ∨ a = m + 16) a j → MW m a j := fun a j z => LW_MW (j := j) (by unfold LW; omega)
  -- one row more
  have step : ∀ (h1 : e_H) (i : Nat) (fw : Bool) (D : (Nat → Int32) → Prop) (u : Int32), i < n → MF (fun a _ => a = m + 15 ∨ a = m + 16) h h1 →
      ((u = 1 ∧ ∀ s, ¬ D s) ∨ (u = 0 ∧ Least D (2 * n) (e_I h1 (m + 16)) ∧ ∀ j, j < 2 * n → ∃ z : Nat, z < 1000 ∧ e_I h1 (m + 16) j = nI z)) →
      ∃ h2 h3, lp_X10_leastRow_23 F m (nI n) (nI i) (if fw = true then 1 else -1) F 0 h1 = some h2 ∧
        e_bE (if u = 0 then Option.bind (e_fA h2 m 8 29) (fun x94 => Option.bind (e_fA h2 m 8 30) (fun x98 => Option.bind (f_X10_compare F h2 x94 x98 (2 * nI n)) (fun x104 => if x104 < 0 then some (.ok ()) else some (.error (u, h2))))) else some (.ok ()) : Option (Except (Int32 × e_H) Unit)) (fun _ => Option.bind (lp_X10_leastRow_118 F m (nI n) F 0 h2 : Option (e_H)) (fun h146_6 => some (0, h146_6))) = some (0, h3) ∧
        MF (fun a _ => a = m + 15 ∨ a = m + 16) h h3 ∧ Least (fun s => D s ∨ s = fun j => t (2 * ixM n i fw (j / 2) + j % 2)) (2 * n) (e_I h3 (m + 16)) ∧ ∀ j, j < 2 * n → ∃ z : Nat, z < 1000 ∧ e_I h3 (m + 16) j = nI z := by
    intro h1 i fw D u hi mf hu
    have w1 := w.mf mf WW
    obtain ⟨h2, e2, mf2, r2⟩ := layRow w1 h0 h8 hF hi fw (t := t) (fun j hj => by rw [mf.I _ _ (by omega)]; exact ht j hj)
    have mf12 := mf.tr (mf2.mono fun a j z => Or.inl z)
    have w2 := w.mf mf12 WW
    obtain ⟨h3, e3, mf3, r3⟩ := copyLeast w2 h8 hF
    have mf13 := mf12.tr (mf3.mono fun a j z => Or.inr z)
    have row3 : ∀ j, j < 2 * n → e_I h3 (m + 16) j = t (2 * ixM n i fw (j / 2) + j % 2) := fun j hj => (r3 j hj).trans (r2 j hj)
    have sm3 : ∀ j, j < 2 * n → ∃ z : Nat, z < 1000 ∧ e_I h3 (m + 16) j = nI z := fun j hj => by rw [row3 j hj]; exact st i fw j hi hj
    rcases hu with ⟨rfl, hD⟩ | ⟨rfl, hD, sm⟩
    · refine ⟨h2, h3, e2, ?_, mf13, Least.one (r := fun j => t (2 * ixM n i fw (j / 2) + j % 2)) (fun s hs => hs.elim (fun z => absurd z (hD s)) id) (Or.inr rfl) row3, sm3⟩
      simp only [show ¬ (1 : Int32) = 0 by decide, if_false, bE_o, e3, Option.bind_some]
    · have same : ∀ j, e_I h2 (m + 16) j = e_I h1 (m + 16) j := fun j => mf2.I _ _ (by omega)
      obtain ⟨v, hv1, hv2, hv3⟩ := f_compare (F := F) (N := 2 * n) (h := h2) (p := m + 1 + 14) (q := m + 1 + 15) (a := fun j => t (2 * ixM n i fw (j / 2) + j % 2)) (b := e_I h1 (m + 16)) (by omega) (by omega) (fun j hj => p_aI' (w2.kk 14 29 0 16 rfl) (by omega) (by decide) (r2 j hj)) (fun j hj => p_aI' (w2.kk 15 30 0 16 rfl) (by omega) (by decide) (same j)) (fun j hj => st i fw j hi hj) sm
      by_cases hq : v < 0
      · refine ⟨h2, h3, e2, ?_, mf13, hD.better (fun s => Iff.rfl) (hv2.mp hq) row3, sm3⟩
        simp only [if_true, w2.f0 14 29 0 16 rfl, w2.f0 15 30 0 16 rfl, i_2i, hv1, hq, bE_o, e3, Option.bind_some]
      · refine ⟨h2, h2, e2, ?_, mf12, hD.stay (fun s => Iff.rfl) (fun z => hq (hv2.mpr z)) (fun j hj => same j), fun j hj => by rw [same]; exact sm j hj⟩
        simp only [if_true, w2.f0 14 29 0 16 rfl, w2.f0 15 30 0 16 rfl, i_2i, hv1, hq, if_false, bE_e, Option.bind_some]
  have lst : ∀ (i : Nat) (s : Nat → Int32), (C s ∨ setT n t (i + 1) s) ↔ ((C s ∨ setT n t i s) ∨ s = fun j => t (2 * ixM n i true (j / 2) + j % 2)) ∨ s = fun j => t (2 * ixM n i false (j / 2) + j % 2) := by
    intro i s
    constructor
    · rintro (z | ⟨k, fw, hk, rfl⟩)
      · exact Or.inl (Or.inl (Or.inl z))
      · by_cases q : k = i
        · subst q
          cases fw
          · exact Or.inr rfl
          · exact Or.inl (Or.inr rfl)
        · exact Or.inl (Or.inl (Or.inr ⟨k, fw, by omega, rfl⟩))
    · rintro (((z | ⟨k, fw, hk, rfl⟩) | rfl) | rfl)
      · exact Or.inl z
      · exact Or.inr ⟨k, fw, by omega, rfl⟩
      · exact Or.inr ⟨i, true, by omega, rfl⟩
      · exact Or.inr ⟨i, false, by omega, rfl⟩
  unfold f_X10_leastRow
  refine Ok.bind (R := fun h' => MF (fun a _ => a = m + 15 ∨ a = m + 16) h h' ∧ Least (fun s => C s ∨ setT n t n s) (2 * n) (e_I h' (m + 16)) ∧ ∀ j, j < 2 * n → ∃ z : Nat, z < 1000 ∧ e_I h' (m + 16) j = nI z) ?_ fun h' hq => Ok.ret hq
  refine Ok.loopC3 (lp := lp_X10_leastRow_5 F m (nI n)) (fun i u x h1 => x = nI i ∧ MF (fun a _ => a = m + 15 ∨ a = m + 16) h h1 ∧ ((u = 1 ∧ i = 0 ∧ ∀ s, ¬ (C s ∨ setT n t i s)) ∨ (u = 0 ∧ Least (fun s => C s ∨ setT n t i s) (2 * n) (e_I h1 (m + 16)) ∧ ∀ j, j < 2 * n → ∃ z : Nat, z < 1000 ∧ e_I h1 (m + 16) j = nI z))) n (fun i u x h1 f hi ⟨e, mf, hu⟩ nx => ?_) (fun u x h1 f ⟨e, mf, hu⟩ => ?_) (by omega) ⟨rfl, MF.rf _ h, ?_⟩
  · subst e
    have hle : (nI n ≤ nI i) = False := by rw [p_le (by omega) (by omega)]; simp; omega
    obtain ⟨h2, h3, e2, e3, mf3, l3, s3⟩ := step h1 i true (fun s => C s ∨ setT n t i s) u hi mf (hu.imp (fun z => ⟨z.1, z.2.2⟩) id)
    obtain ⟨h4, h5, e4, e5, mf5, l5, s5⟩ := step h3 i false _ 0 hi mf3 (Or.inr ⟨rfl, l3, s3⟩)
    simp only [if_true, Bool.false_eq_true, if_false] at e2 e4
    have e14 : lp_X10_leastRow_14 F m (nI n) (nI i) F u 1 h1 = some (0, h5) := by
      obtain ⟨F', hF'⟩ : ∃ g, F = g + 3 := ⟨F - 3, by omega⟩
      have a1 : ∀ f, lp_X10_leastRow_14 F m (nI n) (nI i) (f + 1) u 1 h1 = lp_X10_leastRow_14 F m (nI n) (nI i) f 0 (-1) h3 := by
        intro f
        simp only [lp_X10_leastRow_14, show ¬ (1 : Int32) < -1 by decide, if_false, e2, Option.bind_some]
        rw [e3]
        rfl
      have a2 : ∀ f, lp_X10_leastRow_14 F m (nI n) (nI i) (f + 1) 0 (-1) h3 = lp_X10_leastRow_14 F m (nI n) (nI i) f 0 (-3) h5 := by
        intro f
        simp only [if_true] at e5
        simp only [lp_X10_leastRow_14, show ¬ (-1 : Int32) < -1 by decide, if_false, if_true, e4, Option.bind_some]
        rw [e5]
        rfl
      have a3 : ∀ f, lp_X10_leastRow_14 F m (nI n) (nI i) (f + 1) 0 (-3) h5 = some (0, h5) := by
        intro f
        simp only [lp_X10_leastRow_14, show (-3 : Int32) < -1 by decide, if_true]
      have : lp_X10_leastRow_14 F m (nI n) (nI i) (F' + 3) u 1 h1 = some (0, h5) := by rw [a1, a2, a3]
      rw [← hF'] at this
      exact this
    simp only [lp_X10_leastRow_5, hle, if_false, e14, Option.bind_some, u2_s, ← nI_succ]
    exact nx _ _ _ ⟨rfl, mf5, Or.inr ⟨rfl, l5.iff (lst i), s5⟩⟩
  · subst e
    simp only [lp_X10_leastRow_5, Int32.le_refl, if_true]
    rcases hu with ⟨-, z, -⟩ | ⟨-, l, s⟩
    · omega
    · exact Ok.ret ⟨mf, l, s⟩
  · rcases hf with ⟨rfl, hC⟩ | ⟨rfl, l, s⟩
    · exact Or.inl ⟨rfl, rfl, fun s hs => hs.elim (hC s) fun ⟨k, fw, hk, _⟩ => by omega⟩
    · exact Or.inr ⟨rfl, l.iff fun s => ⟨fun z => z.elim id fun ⟨k, fw, hk, _⟩ => by omega, Or.inl⟩, s⟩
end
