/-! PURE LAYER 7: bands in a row of the model -/
def RB (h : e_H) (r sz b : Nat) (P : Bd) : Prop :=
  (e_k h r = some (.inr (0, sz))) ∧
  (258 ≤ sz) ∧
  (sz ≤ 1000) ∧
  (b ≤ 8) ∧
  (e_I h r (105 + 17 * b) = nI P.n) ∧
  (0 < P.n) ∧
  (P.n ≤ 8) ∧
  (∀ i, i < P.n → e_I h r (105 + 17 * b + 1 + 2 * i) = P.x i) ∧
  (∀ i, i < P.n → e_I h r (105 + 17 * b + 2 + 2 * i) = P.y i)
theorem RB.k {h : e_H} {r sz b : Nat} {P : Bd} (w__ : RB h r sz b P) : e_k h r = some (.inr (0, sz)) := w__.1
theorem RB.s1 {h : e_H} {r sz b : Nat} {P : Bd} (w__ : RB h r sz b P) : 258 ≤ sz := w__.2.1
theorem RB.s2 {h : e_H} {r sz b : Nat} {P : Bd} (w__ : RB h r sz b P) : sz ≤ 1000 := w__.2.2.1
theorem RB.b8 {h : e_H} {r sz b : Nat} {P : Bd} (w__ : RB h r sz b P) : b ≤ 8 := w__.2.2.2.1
theorem RB.n {h : e_H} {r sz b : Nat} {P : Bd} (w__ : RB h r sz b P) : e_I h r (105 + 17 * b) = nI P.n := w__.2.2.2.2.1
theorem RB.pos {h : e_H} {r sz b : Nat} {P : Bd} (w__ : RB h r sz b P) : 0 < P.n := w__.2.2.2.2.2.1
theorem RB.le {h : e_H} {r sz b : Nat} {P : Bd} (w__ : RB h r sz b P) : P.n ≤ 8 := w__.2.2.2.2.2.2.1
theorem RB.x {h : e_H} {r sz b : Nat} {P : Bd} (w__ : RB h r sz b P) : ∀ i, i < P.n → e_I h r (105 + 17 * b + 1 + 2 * i) = P.x i := w__.2.2.2.2.2.2.2.1
theorem RB.y {h : e_H} {r sz b : Nat} {P : Bd} (w__ : RB h r sz b P) : ∀ i, i < P.n → e_I h r (105 + 17 * b + 2 + 2 * i) = P.y i := w__.2.2.2.2.2.2.2.2
theorem i_rn (b : Nat) : (105 : Int32) + 17 * nI b = nI (105 + 17 * b) := by
  rw [show (17 : Int32) = nI 17 from rfl, show (105 : Int32) = nI 105 from rfl, p_mul, p_add]
theorem i_rx (b i : Nat) : ((105 : Int32) + 17 * nI b) + 1 + 2 * nI i = nI (105 + 17 * b + 1 + 2 * i) := by
  rw [i_rn, show (2 : Int32) = nI 2 from rfl, show (1 : Int32) = nI 1 from rfl, p_mul, p_add, p_add]
theorem i_ry (b i : Nat) : ((105 : Int32) + 17 * nI b) + 2 + 2 * nI i = nI (105 + 17 * b + 2 + 2 * i) := by
  rw [i_rn, show (2 : Int32) = nI 2 from rfl, p_mul, p_add, p_add]
/-- the model's way round -/
def Bd.nx_mod (P : Bd) {i : Nat} (h : i < P.n) : (i + 1) % P.n = P.nx i := by
  unfold Bd.nx
  split
  · rename_i e; rw [e, Nat.mod_self]
  · rw [Nat.mod_eq_of_lt (by omega)]
def Bd.pv_mod (P : Bd) {i : Nat} (h : i < P.n) : (i + P.n - 1) % P.n = P.pv i := by
  unfold Bd.pv
  split
  · rename_i e; subst e; rw [Nat.mod_eq_of_lt (by omega)]; omega
  · rw [show i + P.n - 1 = (i - 1) + P.n by omega, Nat.add_mod_right, Nat.mod_eq_of_lt (by omega)]
section
variable {h : e_H} {r sz b : Nat} {P : Bd}
theorem RB.fn (w : RB h r sz b P) : f_X10_cornersOf h r (nI b) = some (nI P.n) := by
  have := w.s1; have := w.s2; have := w.b8
  simp only [f_X10_cornersOf, i_rn]
  rw [p_aI w.k (by omega) (by omega), w.n]; rfl
theorem RB.ax (w : RB h r sz b P) {i : Nat} (hi : i < P.n) : f_X10_xOf h r (nI b) (nI i) = some (P.x i) := by
  have := w.s1; have := w.s2; have := w.b8; have := w.le
  simp only [f_X10_xOf, i_rx]
  rw [p_aI w.k (by omega) (by omega), w.x i hi]; rfl
theorem RB.ay (w : RB h r sz b P) {i : Nat} (hi : i < P.n) : f_X10_yOf h r (nI b) (nI i) = some (P.y i) := by
  have := w.s1; have := w.s2; have := w.b8; have := w.le
  simp only [f_X10_yOf, i_ry]
  rw [p_aI w.k (by omega) (by omega), w.y i hi]; rfl
theorem RB.n0 (w : RB h r sz b P) : (nI P.n = 0) = False := by
  have := w.pos; have := w.le
  rw [p_e0 (by omega)]; simp; omega
theorem RB.nle (w : RB h r sz b P) {i : Nat} (hi : i < P.n) : (nI P.n ≤ nI i) = False := by
  have := w.le
  rw [p_le (by omega) (by omega)]
  simp; omega
theorem RB.nx (w : RB h r sz b P) {i : Nat} (hi : i < P.n) : nI i + 1 - (nI i + 1) / nI P.n * nI P.n = nI (P.nx i) := by
  have := w.le
  rw [← nI_succ, pk_rem (by omega) w.pos (by omega), P.nx_mod hi]
theorem RB.pv (w : RB h r sz b P) {i : Nat} (hi : i < P.n) : nI i + nI P.n - 1 - (nI i + nI P.n - 1) / nI P.n * nI P.n = nI (P.pv i) := by
  have := w.le; have := w.pos
  rw [show (1 : Int32) = nI 1 from rfl, p_add, p_sub (by omega), pk_rem (by omega) w.pos (by omega), P.pv_mod hi]
theorem RB.turnAt (w : RB h r sz b P) {i : Nat} (hi : i < P.n) : f_X10_turnAt h r (nI b) (nI i) = some (g_sg (P.tn i)) := by
  simp only [f_X10_turnAt, w.fn, Option.bind_some, w.n0, if_false, w.nx hi, w.pv hi, w.ax hi, w.ay hi, w.ax (P.nx_lt hi), w.ay (P.nx_lt hi), w.ax (P.pv_lt hi), w.ay (P.pv_lt hi), f_turn10]
  rfl
theorem RB.meetSides (w : RB h r sz b P) {b2 : Nat} {Q : Bd} (w2 : RB h r sz b2 Q) {i k : Nat} (hi : i < P.n) (hk : k < Q.n) : f_X10_meetSides h r (nI b) (nI i) (nI b2) (nI k) = some (P.mt Q i k) := by
  simp only [f_X10_meetSides, w.fn, w2.fn, Option.bind_some, w.n0, w2.n0, if_false, w.nx hi, w2.nx hk, w.ax hi, w.ay hi, w.ax (P.nx_lt hi), w.ay (P.nx_lt hi), w2.ax hk, w2.ay hk, w2.ax (Q.nx_lt hk), w2.ay (Q.nx_lt hk), f_meet10]
  rfl
end
theorem mt_le (P Q : Bd) (i k : Nat) : (P.mt Q i k ≤ 0) = (P.mt Q i k = 0) := by
  rcases g_meet_c (P.x i) (P.y i) (P.x (P.nx i)) (P.y (P.nx i)) (Q.x k) (Q.y k) (Q.x (Q.nx k)) (Q.y (Q.nx k)) with e | e | e <;>
    (unfold Bd.mt; rw [e]; decide)
section
variable {h : e_H} {r sz b : Nat} {P : Bd}
theorem RB.meetsOther (w : RB h r sz b P) {F : Nat} (hF : 9 < F) {b2 : Nat} {Q : Bd} (w2 : RB h r sz b2 Q) : f_X10_meetsOther F h r (nI b) (nI b2) = some (b2i (!P.clear Q)) := by
  have h1 := w.le; have h2 := w2.le
  have hl : lp_X10_meetsOther_2 F h r (nI b) (nI b2) F 0 = some (if anyTo (fun i => anyTo (fun k => decide (P.mt Q i k ≠ 0)) Q.n) P.n = true then .error 1 else .ok ()) := by
    refine lp_any (lp := lp_X10_meetsOther_2 F h r (nI b) (nI b2)) nI _ P.n _ _ (fun i hi f => ?_) (fun f => ?_) (by omega)
    · have hl : lp_X10_meetsOther_14 F h r (nI b) (nI b2) (nI i) F 0 = some (if anyTo (fun k => decide (P.mt Q i k ≠ 0)) Q.n = true then .error (.error 1) else .ok ()) := by
        refine lp_any (lp := lp_X10_meetsOther_14 F h r (nI b) (nI b2) (nI i)) nI _ Q.n _ _ (fun k hk f => ?_) (fun f => ?_) (by omega)
        · simp only [lp_X10_meetsOther_14, w2.fn, w.meetSides w2 hi hk, Option.bind_some, w2.nle hk, if_false, ← nI_succ, mt_le]
          by_cases q : P.mt Q i k = 0 <;> simp [q]
        · simp only [lp_X10_meetsOther_14, w2.fn, Option.bind_some, Int32.le_refl, if_true]
      simp only [lp_X10_meetsOther_2, w.fn, hl, Option.bind_some, w.nle hi, if_false, ← nI_succ]
      split <;> rfl
    · simp only [lp_X10_meetsOther_2, w.fn, Option.bind_some, Int32.le_refl, if_true]
  simp only [f_X10_meetsOther, hl, Bd.clear, Bool.not_not]
  cases anyTo (fun i => anyTo (fun k => decide (P.mt Q i k ≠ 0)) Q.n) P.n <;> rfl
end
