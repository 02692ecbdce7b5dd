/-! PURE LAYER 6: a band's numbers; the component's bands -/
def Bd : Type := (Nat) × (Nat → Int32) × (Nat → Int32) × (List Nat)
def Bd.n (z__ : Bd) : Nat := z__.1
def Bd.x (z__ : Bd) : Nat → Int32 := z__.2.1
def Bd.y (z__ : Bd) : Nat → Int32 := z__.2.2.1
def Bd.nm (z__ : Bd) : List Nat := z__.2.2.2
def Bd.mk (n_ : Nat) (x_ : Nat → Int32) (y_ : Nat → Int32) (nm_ : List Nat) : Bd := (n_, x_, y_, nm_)
theorem Bd.n_mk (n_ : Nat) (x_ : Nat → Int32) (y_ : Nat → Int32) (nm_ : List Nat) : (Bd.mk n_ x_ y_ nm_).n = n_ := rfl
theorem Bd.x_mk (n_ : Nat) (x_ : Nat → Int32) (y_ : Nat → Int32) (nm_ : List Nat) : (Bd.mk n_ x_ y_ nm_).x = x_ := rfl
theorem Bd.y_mk (n_ : Nat) (x_ : Nat → Int32) (y_ : Nat → Int32) (nm_ : List Nat) : (Bd.mk n_ x_ y_ nm_).y = y_ := rfl
theorem Bd.nm_mk (n_ : Nat) (x_ : Nat → Int32) (y_ : Nat → Int32) (nm_ : List Nat) : (Bd.mk n_ x_ y_ nm_).nm = nm_ := rfl
section
def Bd.nx (P : Bd) (i : Nat) : Nat := if i + 1 = P.n then 0 else i + 1
def Bd.pv (P : Bd) (i : Nat) : Nat := if i = 0 then P.n - 1 else i - 1
def Bd.tn (P : Bd) (i : Nat) : Int32 := g_turn (P.x (P.pv i)) (P.y (P.pv i)) (P.x i) (P.y i) (P.x (P.nx i)) (P.y (P.nx i))
def Bd.area (P : Bd) : Int32 := sumTo (fun i => P.x i * P.y (P.nx i) - P.x (P.nx i) * P.y i) P.n
def Bd.on (P : Bd) : Int32 := sumTo (fun i => g_gcd (P.x (P.nx i) - P.x i) (P.y (P.nx i) - P.y i)) P.n
def Bd.within (P : Bd) : Int32 := (g_abs P.area - P.on + 2) / 2
def Bd.sq (P : Bd) (i : Nat) : Int32 := (P.x (P.nx i) - P.x i) * (P.x (P.nx i) - P.x i) + (P.y (P.nx i) - P.y i) * (P.y (P.nx i) - P.y i)
def Bd.bent (P : Bd) : Int32 := sumTo (fun i => b2i (g_unl (P.tn i) P.area)) P.n
def Bd.isR (P : Bd) (i : Nat) : Bool := decide ((P.x (P.pv i) - P.x i) * (P.x (P.nx i) - P.x i) + (P.y (P.pv i) - P.y i) * (P.y (P.nx i) - P.y i) = 0)
def Bd.right (P : Bd) : Int32 := sumTo (fun i => b2i (P.isR i)) P.n
/-- a side, by a scale, against a point: whether it is crossed to the right -/
def Bd.cr (c ax ay bx by' px py : Int32) : Bool := (decide (py < c * ay) != decide (py < c * by')) && (if c * ay < c * by' then decide (0 < g_turn (c * ax) (c * ay) (c * bx) (c * by') px py) else decide (g_turn (c * ax) (c * ay) (c * bx) (c * by') px py < 0))
def Bd.onB (P : Bd) (c px py : Int32) : Bool := anyTo (fun i => g_on (c * P.x i) (c * P.y i) (c * P.x (P.nx i)) (c * P.y (P.nx i)) px py) P.n
def Bd.inB (P : Bd) (c px py : Int32) : Nat → Bool
  | 0 => false
  | i + 1 => P.inB c px py i != Bd.cr c (P.x i) (P.y i) (P.x (P.nx i)) (P.y (P.nx i)) px py
def Bd.place (P : Bd) (px py : Int32) : Int32 := if P.onB 2 px py = true then 1 else if P.inB 2 px py P.n = true then 2 else 0
def Bd.mt (P Q : Bd) (i k : Nat) : Int32 := g_meet (P.x i) (P.y i) (P.x (P.nx i)) (P.y (P.nx i)) (Q.x k) (Q.y k) (Q.x (Q.nx k)) (Q.y (Q.nx k))
def Bd.mts (P Q : Bd) (how : Int32) : Int32 := sumTo (fun i => sumTo (fun k => b2i (decide (P.mt Q i k = how))) Q.n) P.n
def Bd.clear (P Q : Bd) : Bool := !anyTo (fun i => anyTo (fun k => decide (P.mt Q i k ≠ 0)) Q.n) P.n
def Bd.inside (P Q : Bd) : Bool := P.clear Q && decide (Q.place (2 * P.x 0) (2 * P.y 0) = 2)
/-- by itself: two corners alike, no turn, sides that meet -/
def Bd.w2 (P : Bd) : Bool := anyTo (fun i => anyTo (fun k => decide (P.x i = P.x k) && decide (P.y i = P.y k)) i) P.n
def Bd.w3 (P : Bd) : Bool := anyTo (fun i => decide (P.tn i = 0)) P.n
def Bd.w4 (P : Bd) : Bool := anyTo (fun i => anyTo (fun k => decide (P.nx i ≠ k) && (decide (P.nx k ≠ i) && decide (P.mt P i k ≠ 0))) i) P.n
def Bd.why (P : Bd) : Int32 := if P.w2 = true then 2 else if P.w3 = true then 3 else if P.w4 = true then 4 else 0
/-- what a band is like that a board may hold -/
def Bd.fit (P : Bd) : Prop := P.n ≤ 8 ∧ ∀ i, i < P.n → ∃ a b : Nat, a < 10 ∧ b < 10 ∧ P.x i = nI a ∧ P.y i = nI b
theorem Bd.nx_lt (P : Bd) {i : Nat} (h : i < P.n) : P.nx i < P.n := by unfold Bd.nx; split <;> omega
theorem Bd.pv_lt (P : Bd) {i : Nat} (h : i < P.n) : P.pv i < P.n := by unfold Bd.pv; split <;> omega
end
/-- the component's band at a, its arrays at xs, ys -/
def IsBd (h : e_H) (a xs ys : Nat) (P : Bd) : Prop :=
  (e_k h a = some (.inl 6)) ∧
  (e_R h a 0 = some xs) ∧
  (e_R h a 1 = some ys) ∧
  (e_k h xs = some (.inr (0, 9))) ∧
  (e_k h ys = some (.inr (0, 9))) ∧
  (e_I h a 2 = nI P.n) ∧
  (P.n ≤ 8) ∧
  (∀ i, i < P.n → e_I h xs i = P.x i) ∧
  (∀ i, i < P.n → e_I h ys i = P.y i)
theorem IsBd.k {h : e_H} {a xs ys : Nat} {P : Bd} (w__ : IsBd h a xs ys P) : e_k h a = some (.inl 6) := w__.1
theorem IsBd.rx {h : e_H} {a xs ys : Nat} {P : Bd} (w__ : IsBd h a xs ys P) : e_R h a 0 = some xs := w__.2.1
theorem IsBd.ry {h : e_H} {a xs ys : Nat} {P : Bd} (w__ : IsBd h a xs ys P) : e_R h a 1 = some ys := w__.2.2.1
theorem IsBd.kx {h : e_H} {a xs ys : Nat} {P : Bd} (w__ : IsBd h a xs ys P) : e_k h xs = some (.inr (0, 9)) := w__.2.2.2.1
theorem IsBd.ky {h : e_H} {a xs ys : Nat} {P : Bd} (w__ : IsBd h a xs ys P) : e_k h ys = some (.inr (0, 9)) := w__.2.2.2.2.1
theorem IsBd.n {h : e_H} {a xs ys : Nat} {P : Bd} (w__ : IsBd h a xs ys P) : e_I h a 2 = nI P.n := w__.2.2.2.2.2.1
theorem IsBd.le {h : e_H} {a xs ys : Nat} {P : Bd} (w__ : IsBd h a xs ys P) : P.n ≤ 8 := w__.2.2.2.2.2.2.1
theorem IsBd.x {h : e_H} {a xs ys : Nat} {P : Bd} (w__ : IsBd h a xs ys P) : ∀ i, i < P.n → e_I h xs i = P.x i := w__.2.2.2.2.2.2.2.1
theorem IsBd.y {h : e_H} {a xs ys : Nat} {P : Bd} (w__ : IsBd h a xs ys P) : ∀ i, i < P.n → e_I h ys i = P.y i := w__.2.2.2.2.2.2.2.2
section
variable {h : e_H} {a xs ys : Nat} {P : Bd}
theorem IsBd.is (b : IsBd h a xs ys P) : e_is h a 6 = some () := p_is b.k
theorem IsBd.fx (b : IsBd h a xs ys P) : e_fA h a 6 0 = some xs := p_fA b.k b.rx
theorem IsBd.fy (b : IsBd h a xs ys P) : e_fA h a 6 1 = some ys := p_fA b.k b.ry
theorem IsBd.fn (b : IsBd h a xs ys P) : e_fI h a 6 2 = some (nI P.n) := by rw [p_fI b.k, b.n]
theorem IsBd.ax (b : IsBd h a xs ys P) {i : Nat} (hi : i < P.n) : e_aI h xs 0 (nI i) = some (P.x i) := by rw [p_aI b.kx (by have := b.le; omega) (by decide), b.x i hi]
theorem IsBd.ay (b : IsBd h a xs ys P) {i : Nat} (hi : i < P.n) : e_aI h ys 0 (nI i) = some (P.y i) := by rw [p_aI b.ky (by have := b.le; omega) (by decide), b.y i hi]
theorem IsBd.next (b : IsBd h a xs ys P) {i : Nat} (hi : i < P.n) : f_X8_next h a (nI i) = some (nI (P.nx i)) := by
  have := b.le
  simp only [f_X8_next, b.fn, Option.bind_some, ← nI_succ, Bd.nx]
  simp (disch := omega) only [p_eq]
  split <;> rfl
theorem IsBd.last (b : IsBd h a xs ys P) {i : Nat} (hi : i < P.n) : f_X8_last h a (nI i) = some (nI (P.pv i)) := by
  have := b.le
  simp only [f_X8_last, b.fn, Option.bind_some, Bd.pv, nI_zero]
  simp (disch := omega) only [p_eq]
  split
  · rw [show (1 : Int32) = nI 1 from rfl, p_sub (by omega)]
  · rw [show (1 : Int32) = nI 1 from rfl, p_sub (by omega)]
theorem IsBd.turnAt (b : IsBd h a xs ys P) {i : Nat} (hi : i < P.n) : f_X8_turnAt h a (nI i) = some (P.tn i) := by
  simp only [f_X8_turnAt, b.fx, b.fy, b.next hi, b.last hi, b.ax hi, b.ay hi, b.ax (P.nx_lt hi), b.ay (P.nx_lt hi), b.ax (P.pv_lt hi), b.ay (P.pv_lt hi), Option.bind_some, f_turn1]
  rfl
theorem IsBd.nle (b : IsBd h a xs ys P) {i : Nat} (hi : i < P.n) : (nI P.n ≤ nI i) = False := by
  have := b.le
  rw [p_le (by omega) (by omega)]
  simp; omega
theorem IsBd.area (b : IsBd h a xs ys P) {F : Nat} (hF : 9 < F) : f_X8_area F h a = some P.area := by
  have hl : lp_X8_area_4 F h a F 0 0 = some P.area := by
    refine lp_all2 (lp := lp_X8_area_4 F h a) (fun i => sumTo (fun i => P.x i * P.y (P.nx i) - P.x (P.nx i) * P.y i) i) nI P.n P.area (fun i hi f => ?_) (fun f => ?_) (by have := b.le; omega)
    · simp only [lp_X8_area_4, b.fx, b.fy, b.fn, b.next hi, b.ax hi, b.ay hi, b.ax (P.nx_lt hi), b.ay (P.nx_lt hi), Option.bind_some, b.nle hi, if_false, ← nI_succ, sumTo]
    · simp only [lp_X8_area_4, b.fn, Option.bind_some, Int32.le_refl, if_true, Bd.area]
  simp only [f_X8_area, hl, Option.bind_some]
theorem IsBd.nlef (b : IsBd h a xs ys P) {F i : Nat} (hF : 9 < F) (hi : i < P.n) : P.n < F := by have := b.le; omega
theorem IsBd.on (b : IsBd h a xs ys P) {F : Nat} (hF : 9 < F) (hP : P.fit) : f_X8_on F h a = some P.on := by
  have hl : lp_X8_on_4 F h a F 0 0 = some P.on := by
    refine lp_all2 (lp := lp_X8_on_4 F h a) (fun i => sumTo (fun i => g_gcd (P.x (P.nx i) - P.x i) (P.y (P.nx i) - P.y i)) i) nI P.n P.on (fun i hi f => ?_) (fun f => ?_) (by have := b.le; omega)
    · have hc : f_X1_common F 32 (P.x (P.nx i) - P.x i) (P.y (P.nx i) - P.y i) = some (g_gcd (P.x (P.nx i) - P.x i) (P.y (P.nx i) - P.y i)) := by
        obtain ⟨a1, b1, h1, h2, h3, h4⟩ := hP.2 i hi
        obtain ⟨a2, b2, h5, h6, h7, h8⟩ := hP.2 _ (P.nx_lt hi)
        rw [h3, h4, h7, h8]
        exact f_common1 F (g_s9_sub h5 h1) (g_s9_sub h6 h2)
      simp only [lp_X8_on_4, b.fx, b.fy, b.fn, b.next hi, b.ax hi, b.ay hi, b.ax (P.nx_lt hi), b.ay (P.nx_lt hi), Option.bind_some, b.nle hi, if_false, ← nI_succ, sumTo, hc]
    · simp only [lp_X8_on_4, b.fn, Option.bind_some, Int32.le_refl, if_true, Bd.on]
  simp only [f_X8_on, hl, Option.bind_some]
theorem IsBd.within (b : IsBd h a xs ys P) {F : Nat} (hF : 9 < F) (hP : P.fit) : f_X8_within F h a = some P.within := by
  simp only [f_X8_within, b.is, b.area hF, b.on hF hP, Option.bind_some, i_zsub]
  rfl
theorem IsBd.square (b : IsBd h a xs ys P) {i : Nat} (hi : i < P.n) : f_X8_square h a (nI i) = some (P.sq i) := by
  simp only [f_X8_square, b.fx, b.fy, b.next hi, b.ax hi, b.ay hi, b.ax (P.nx_lt hi), b.ay (P.nx_lt hi), Option.bind_some]
  rfl
theorem IsBd.bent (b : IsBd h a xs ys P) {F : Nat} (hF : 9 < F) : f_X8_bent F h a = some P.bent := by
  have hl : lp_X8_bent_4 F h a F 0 0 = some P.bent := by
    refine lp_all2 (lp := lp_X8_bent_4 F h a) (fun i => sumTo (fun i => b2i (g_unl (P.tn i) P.area)) i) nI P.n P.bent (fun i hi f => ?_) (fun f => ?_) (by have := b.le; omega)
    · simp only [lp_X8_bent_4, b.turnAt hi, b.area hF, b.fn, f_unl, Option.bind_some, b.nle hi, if_false, ← nI_succ, sumTo, b_ite, b2i_0, b2i_1]
      cases g_unl (P.tn i) P.area <;> rfl
    · simp only [lp_X8_bent_4, b.fn, Option.bind_some, Int32.le_refl, if_true, Bd.bent]
  simp only [f_X8_bent, hl, Option.bind_some]
theorem IsBd.right (b : IsBd h a xs ys P) {F : Nat} (hF : 9 < F) : f_X8_right F h a = some P.right := by
  have hl : lp_X8_right_4 F h a F 0 0 = some P.right := by
    refine lp_all2 (lp := lp_X8_right_4 F h a) (fun i => sumTo (fun i => b2i (P.isR i)) i) nI P.n P.right (fun i hi f => ?_) (fun f => ?_) (by have := b.le; omega)
    · simp only [lp_X8_right_4, b.fx, b.fy, b.fn, b.next hi, b.last hi, b.ax hi, b.ay hi, b.ax (P.nx_lt hi), b.ay (P.nx_lt hi), b.ax (P.pv_lt hi), b.ay (P.pv_lt hi), Option.bind_some, b.nle hi, if_false, ← nI_succ, sumTo, Bd.isR]
      by_cases q : (P.x (P.pv i) - P.x i) * (P.x (P.nx i) - P.x i) + (P.y (P.pv i) - P.y i) * (P.y (P.nx i) - P.y i) = 0 <;> simp [q, b2i]
    · simp only [lp_X8_right_4, b.fn, Option.bind_some, Int32.le_refl, if_true, Bd.right]
  simp only [f_X8_right, hl, Option.bind_some]
theorem IsBd.meeting (b : IsBd h a xs ys P) {a2 xs2 ys2 : Nat} {Q : Bd} (b2 : IsBd h a2 xs2 ys2 Q) {i k : Nat} (hi : i < P.n) (hk : k < Q.n) : f_X8_meeting h a (nI i) a2 (nI k) = some (P.mt Q i k) := by
  simp only [f_X8_meeting, b.fx, b.fy, b.next hi, b.ax hi, b.ay hi, b.ax (P.nx_lt hi), b.ay (P.nx_lt hi), b2.fx, b2.fy, b2.next hk, b2.ax hk, b2.ay hk, b2.ax (Q.nx_lt hk), b2.ay (Q.nx_lt hk), Option.bind_some, f_meets1]
  rfl
theorem IsBd.meetings (b : IsBd h a xs ys P) {F : Nat} (hF : 9 < F) {a2 xs2 ys2 : Nat} {Q : Bd} (b2 : IsBd h a2 xs2 ys2 Q) (how : Int32) : f_X8_meetings F h a a2 how = some (P.mts Q how) := by
  have hl : lp_X8_meetings_5 F h a a2 how F 0 0 = some (P.mts Q how) := by
    refine lp_all2 (lp := lp_X8_meetings_5 F h a a2 how) (fun i => sumTo (fun i => sumTo (fun k => b2i (decide (P.mt Q i k = how))) Q.n) i) nI P.n _ (fun i hi f => ?_) (fun f => ?_) (by have := b.le; omega)
    · have h2 : ∀ v, lp_X8_meetings_17 F h a a2 how (nI i) F v 0 = some (v + sumTo (fun k => b2i (decide (P.mt Q i k = how))) Q.n) := by
        intro v
        refine (congrArg (fun z => lp_X8_meetings_17 F h a a2 how (nI i) F z 0) (Int32.add_zero v).symm).trans ?_
        refine lp_all2 (lp := lp_X8_meetings_17 F h a a2 how (nI i)) (fun k => v + sumTo (fun k => b2i (decide (P.mt Q i k = how))) k) nI Q.n _ (fun k hk f => ?_) (fun f => ?_) (by have := b2.le; omega)
        · simp only [lp_X8_meetings_17, b2.fn, b.meeting b2 hi hk, b2.nle hk, Option.bind_some, if_false, ← nI_succ, sumTo, ← Int32.add_assoc]
          by_cases q : P.mt Q i k = how <;> simp [q, b2i]
        · simp only [lp_X8_meetings_17, b2.fn, Option.bind_some, Int32.le_refl, if_true]
      simp only [lp_X8_meetings_5, b.fn, h2, Option.bind_some, b.nle hi, if_false, ← nI_succ, sumTo]
    · simp only [lp_X8_meetings_5, b.fn, Option.bind_some, Int32.le_refl, if_true, Bd.mts]
  simp only [f_X8_meetings, hl, Option.bind_some]
end
theorem sumTo_small {p : Nat → Bool} {n : Nat} : ∃ k, k ≤ n ∧ sumTo (fun i => b2i (p i)) n = nI k ∧ (k = 0 ↔ anyTo p n = false) := by
  induction n with
  | zero => exact ⟨0, by omega, rfl, by simp [anyTo]⟩
  | succ n ih =>
    obtain ⟨k, h1, h2, h3⟩ := ih
    simp only [sumTo, anyTo, h2]
    cases hp : p n with
    | true => exact ⟨k + 1, by omega, by rw [nI_succ]; rfl, by simp⟩
    | false => exact ⟨k, by omega, by simp [b2i], by simp [h3]⟩
theorem sumTo_small2 {p : Nat → Nat → Bool} {m n : Nat} : ∃ k, k ≤ m * n ∧ sumTo (fun i => sumTo (fun j => b2i (p i j)) n) m = nI k ∧ (k = 0 ↔ anyTo (fun i => anyTo (p i) n) m = false) := by
  induction m with
  | zero => exact ⟨0, by omega, rfl, by simp [anyTo]⟩
  | succ m ih =>
    obtain ⟨k, h1, h2, h3⟩ := ih
    obtain ⟨l, g1, g2, g3⟩ := sumTo_small (p := p m) (n := n)
    refine ⟨k + l, by rw [Nat.succ_mul]; omega, ?_, ?_⟩
    · simp only [sumTo, h2, g2, p_add]
    · simp only [anyTo]
      rw [Bool.or_eq_false_iff, ← h3, ← g3]; omega
theorem g_meet_c (a b c d e f g h : Int32) : g_meet a b c d e f g h = 0 ∨ g_meet a b c d e f g h = 1 ∨ g_meet a b c d e f g h = 2 := by
  unfold g_meet
  split
  · exact Or.inr (Or.inl rfl)
  · split
    · exact Or.inr (Or.inr rfl)
    · exact Or.inl rfl
theorem Bd.clear_mts (P Q : Bd) (hP : P.n ≤ 8) (hQ : Q.n ≤ 8) : P.clear Q = (decide (P.mts Q 1 = 0) && decide (P.mts Q 2 = 0)) := by
  unfold Bd.clear Bd.mts
  obtain ⟨k, h1, h2, h3⟩ := sumTo_small2 (p := fun i k => decide (P.mt Q i k = 1)) (m := P.n) (n := Q.n)
  obtain ⟨l, g1, g2, g3⟩ := sumTo_small2 (p := fun i k => decide (P.mt Q i k = 2)) (m := P.n) (n := Q.n)
  have hb : P.n * Q.n ≤ 8 * 8 := Nat.mul_le_mul hP hQ
  rw [h2, g2]
  simp (disch := omega) only [p_e0]
  rw [Bool.eq_iff_iff, Bool.not_eq_true', Bool.and_eq_true, decide_eq_true_iff, decide_eq_true_iff, h3, g3]
  simp only [anyTo_false, decide_eq_false_iff_not, ne_eq, Decidable.not_not]
  constructor
  · intro q
    constructor
    · intro i hi k hk e; rw [q i hi k hk] at e; exact absurd e (by decide)
    · intro i hi k hk e; rw [q i hi k hk] at e; exact absurd e (by decide)
  · rintro ⟨q1, q2⟩ i hi k hk
    rcases g_meet_c (P.x i) (P.y i) (P.x (P.nx i)) (P.y (P.nx i)) (Q.x k) (Q.y k) (Q.x (Q.nx k)) (Q.y (Q.nx k)) with e | e | e
    · exact e
    · exact absurd e (q1 i hi k hk)
    · exact absurd e (q2 i hi k hk)
section
variable {h : e_H} {a xs ys : Nat} {P : Bd}
theorem IsBd.isClear (b : IsBd h a xs ys P) {F : Nat} (hF : 9 < F) {a2 xs2 ys2 : Nat} {Q : Bd} (b2 : IsBd h a2 xs2 ys2 Q) : f_X8_isClear F h a a2 = some (b2i (P.clear Q)) := by
  simp only [f_X8_isClear, b.is, b.meetings hF b2, Option.bind_some, Bd.clear_mts P Q b.le b2.le]
  by_cases h1 : P.mts Q 1 = 0
  · by_cases h2 : P.mts Q 2 = 0 <;> simp [h1, h2, b2i]
  · simp [h1, b2i]
theorem IsBd.place (b : IsBd h a xs ys P) {F : Nat} (hF : 9 < F) (px py : Int32) : f_X8_place F h a px py = some (P.place px py) := by
  have hl : lp_X8_place_5 F h a px py F (b2i (P.inB 2 px py 0)) (nI 0) = some ((fstTo (fun i => if g_on (2 * P.x i) (2 * P.y i) (2 * P.x (P.nx i)) (2 * P.y (P.nx i)) px py = true then some (.error 1) else none) P.n).getD (.ok (b2i (P.inB 2 px py P.n)))) := by
    refine lp_run2 (lp := lp_X8_place_5 F h a px py) (fun i => b2i (P.inB 2 px py i)) nI _ P.n _ (fun i hi f => ?_) (fun f => ?_) (by have := b.le; omega)
    · simp only [lp_X8_place_5, b.fx, b.fy, b.fn, b.next hi, b.ax hi, b.ay hi, b.ax (P.nx_lt hi), b.ay (P.nx_lt hi), Option.bind_some, b.nle hi, if_false, ← nI_succ, f_isOn1, f_turn1, Bd.inB, Bd.cr]
      generalize g_turn (2 * P.x i) (2 * P.y i) (2 * P.x (P.nx i)) (2 * P.y (P.nx i)) px py = t
      generalize 2 * P.y i = ay
      generalize 2 * P.y (P.nx i) = by'
      generalize P.inB 2 px py i = z
      cases g_on (2 * P.x i) ay (2 * P.x (P.nx i)) by' px py with
      | true => rfl
      | false =>
        have e1 : ∀ u v : Int32, (u ≤ v) = ¬ (v < u) := fun u v => by rw [i_le, i_lt]; simp
        simp only [e1, Bool.false_eq_true, if_false, b2i_0, if_true]
        by_cases h1 : py < ay
        · by_cases h2 : py < by'
          · simp [h1, h2]
          · by_cases h3 : ay < by'
            · by_cases h4 : 0 < t <;> cases z <;> simp [h1, h2, h3, h4, bE_e, bE_o, b2i]
            · by_cases h4 : t < 0 <;> cases z <;> simp [h1, h2, h3, h4, bE_e, bE_o, b2i]
        · by_cases h2 : py < by'
          · by_cases h3 : ay < by'
            · by_cases h4 : 0 < t <;> cases z <;> simp [h1, h2, h3, h4, bE_e, bE_o, b2i]
            · by_cases h4 : t < 0 <;> cases z <;> simp [h1, h2, h3, h4, bE_e, bE_o, b2i]
          · simp [h1, h2]
    · simp only [lp_X8_place_5, b.fn, Option.bind_some, Int32.le_refl, if_true]
  have hl : lp_X8_place_5 F h a px py F 0 0 = _ := hl
  simp only [f_X8_place, hl, fstTo_if, Bd.place]
  change e_bE (some ((if P.onB 2 px py = true then some (Except.error 1) else none).getD _)) _ = _
  cases P.onB 2 px py
  · cases P.inB 2 px py P.n <;> rfl
  · rfl
theorem IsBd.isInside (b : IsBd h a xs ys P) {F : Nat} (hF : 9 < F) (h0 : 0 < P.n) {a2 xs2 ys2 : Nat} {Q : Bd} (b2 : IsBd h a2 xs2 ys2 Q) : f_X8_isInside F h a a2 = some (b2i (P.inside Q)) := by
  simp only [f_X8_isInside, b.is, b2.is, b.isClear hF b2, b.fx, b.fy, show e_aI h xs 0 0 = some (P.x 0) from b.ax h0, show e_aI h ys 0 0 = some (P.y 0) from b.ay h0, b2.place hF, Option.bind_some, Bd.inside]
  cases P.clear Q
  · rfl
  · by_cases q : Q.place (2 * P.x 0) (2 * P.y 0) = 2 <;> simp [q, b2i]
theorem IsBd.why (b : IsBd h a xs ys P) {F : Nat} (hF : 9 < F) : f_X8_why F h a = some P.why := by
  have hb := b.le
  have l2 : lp_X8_why_2 F h a F 0 = some (if P.w2 = true then .error 2 else .ok ()) := by
    refine lp_any (lp := lp_X8_why_2 F h a) nI (fun i => anyTo (fun k => decide (P.x i = P.x k) && decide (P.y i = P.y k)) i) P.n _ _ (fun i hi f => ?_) (fun f => ?_) (by omega)
    · have hl : lp_X8_why_12 F h a (nI i) F 0 = some (if anyTo (fun k => decide (P.x i = P.x k) && decide (P.y i = P.y k)) i = true then .error (.error 2) else .ok ()) := by
        refine lp_any (lp := lp_X8_why_12 F h a (nI i)) nI (fun k => decide (P.x i = P.x k) && decide (P.y i = P.y k)) i _ _ (fun k hk f => ?_) (fun f => ?_) (by omega)
        · have hk' : k < P.n := by omega
          have hle : (nI i ≤ nI k) = False := by rw [p_le (by omega) (by omega)]; simp; omega
          simp only [lp_X8_why_12, b.fx, b.fy, b.ax hi, b.ay hi, b.ax hk', b.ay hk', Option.bind_some, hle, if_false, ← nI_succ]
          by_cases q1 : P.x i = P.x k <;> by_cases q2 : P.y i = P.y k <;> simp [q1, q2, bE_e, bE_o]
        · simp only [lp_X8_why_12, Int32.le_refl, if_true]
      simp only [lp_X8_why_2, b.fn, hl, Option.bind_some, b.nle hi, if_false, ← nI_succ]
      split <;> rfl
    · simp only [lp_X8_why_2, b.fn, Option.bind_some, Int32.le_refl, if_true]
  have l3 : lp_X8_why_63 F h a F 0 = some (if P.w3 = true then .error 3 else .ok ()) := by
    refine lp_any (lp := lp_X8_why_63 F h a) nI (fun i => decide (P.tn i = 0)) P.n _ _ (fun i hi f => ?_) (fun f => ?_) (by omega)
    · simp only [lp_X8_why_63, b.fn, b.turnAt hi, Option.bind_some, b.nle hi, if_false, ← nI_succ, decide_eq_true_iff]
    · simp only [lp_X8_why_63, b.fn, Option.bind_some, Int32.le_refl, if_true]
  have l4 : lp_X8_why_89 F h a F 0 = some (if P.w4 = true then .error 4 else .ok ()) := by
    refine lp_any (lp := lp_X8_why_89 F h a) nI (fun i => anyTo (fun k => decide (P.nx i ≠ k) && (decide (P.nx k ≠ i) && decide (P.mt P i k ≠ 0))) i) P.n _ _ (fun i hi f => ?_) (fun f => ?_) (by omega)
    · have hl : lp_X8_why_99 F h a (nI i) F 0 = some (if anyTo (fun k => decide (P.nx i ≠ k) && (decide (P.nx k ≠ i) && decide (P.mt P i k ≠ 0))) i = true then .error (.error 4) else .ok ()) := by
        refine lp_any (lp := lp_X8_why_99 F h a (nI i)) nI _ i _ _ (fun k hk f => ?_) (fun f => ?_) (by omega)
        · have hk' : k < P.n := by omega
          have hle : (nI i ≤ nI k) = False := by rw [p_le (by omega) (by omega)]; simp; omega
          have n1 := P.nx_lt hi
          have n2 := P.nx_lt hk'
          simp only [lp_X8_why_99, b.next hi, b.next hk', b.meeting b hi hk', Option.bind_some, hle, if_false, ← nI_succ]
          simp (disch := omega) only [p_eq]
          by_cases q1 : P.nx i = k <;> by_cases q2 : P.nx k = i <;> by_cases q3 : P.mt P i k = 0 <;> simp [q1, q2, q3, bE_e, bE_o]
        · simp only [lp_X8_why_99, Int32.le_refl, if_true]
      simp only [lp_X8_why_89, b.fn, hl, Option.bind_some, b.nle hi, if_false, ← nI_succ]
      split <;> rfl
    · simp only [lp_X8_why_89, b.fn, Option.bind_some, Int32.le_refl, if_true]
  simp only [f_X8_why, l2, l3, l4, Bd.why]
  cases P.w2 <;> cases P.w3 <;> cases P.w4 <;> rfl
end
