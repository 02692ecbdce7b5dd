/-! PURE LAYER 9: small numbers as integers -/
def iI (z : Int) : Int32 := Int32.ofInt z
theorem iI_nI (a : Nat) : nI a = iI a := by
  unfold nI iI
  apply Int32.toBitVec_inj.mp
  simp [Int32.ofInt, Int32.ofNat]
theorem iI_add (a b : Int) : iI a + iI b = iI (a + b) := (Int32.ofInt_add a b).symm
theorem iI_mul (a b : Int) : iI a * iI b = iI (a * b) := (Int32.ofInt_mul a b).symm
theorem iI_sub (a b : Int) : iI a - iI b = iI (a - b) := (Int32.ofInt_sub a b).symm
theorem iI_neg (a : Int) : -iI a = iI (-a) := (Int32.ofInt_neg a).symm
theorem iI_toInt {z : Int} (h1 : -2 ^ 31 ≤ z) (h2 : z < 2 ^ 31) : (iI z).toInt = z := Int32.toInt_ofInt_of_le h1 h2
theorem iI_lt {a b : Int} (h1 : -2 ^ 31 ≤ a) (h2 : a < 2 ^ 31) (h3 : -2 ^ 31 ≤ b) (h4 : b < 2 ^ 31) : iI a < iI b ↔ a < b := by
  rw [i_lt, iI_toInt h1 h2, iI_toInt h3 h4]
theorem iI_le {a b : Int} (h1 : -2 ^ 31 ≤ a) (h2 : a < 2 ^ 31) (h3 : -2 ^ 31 ≤ b) (h4 : b < 2 ^ 31) : iI a ≤ iI b ↔ a ≤ b := by
  rw [i_le, iI_toInt h1 h2, iI_toInt h3 h4]
theorem iI_eq {a b : Int} (h1 : -2 ^ 31 ≤ a) (h2 : a < 2 ^ 31) (h3 : -2 ^ 31 ≤ b) (h4 : b < 2 ^ 31) : iI a = iI b ↔ a = b := by
  rw [i_eq, iI_toInt h1 h2, iI_toInt h3 h4]
theorem mul_bd {u v B C : Int} (h1 : -B ≤ u) (h2 : u ≤ B) (h3 : -C ≤ v) (h4 : v ≤ C) : -(B * C) ≤ u * v ∧ u * v ≤ B * C := by
  have a1 : u.natAbs ≤ B.toNat := by omega
  have a2 : v.natAbs ≤ C.toNat := by omega
  have a3 : (u * v).natAbs ≤ B.toNat * C.toNat := by rw [Int.natAbs_mul]; exact Nat.mul_le_mul a1 a2
  have a4 : ((B.toNat * C.toNat : Nat) : Int) = B * C := by rw [Int.natCast_mul, Int.toNat_of_nonneg (by omega), Int.toNat_of_nonneg (by omega)]
  omega
/-- the turn, of integers -/
def zt (ax ay bx by' cx cy : Int) : Int := (bx - ax) * (cy - ay) - (by' - ay) * (cx - ax)
theorem g_turn_iI (ax ay bx by' cx cy : Int) : g_turn (iI ax) (iI ay) (iI bx) (iI by') (iI cx) (iI cy) = iI (zt ax ay bx by' cx cy) := by
  unfold g_turn zt
  simp only [iI_sub, iI_mul]
theorem zt_bd {ax ay bx by' cx cy : Int} {B : Int} (h1 : 0 ≤ ax ∧ ax ≤ B) (h2 : 0 ≤ ay ∧ ay ≤ B) (h3 : 0 ≤ bx ∧ bx ≤ B) (h4 : 0 ≤ by' ∧ by' ≤ B) (h5 : 0 ≤ cx ∧ cx ≤ B) (h6 : 0 ≤ cy ∧ cy ≤ B) : -(2 * (B * B)) ≤ zt ax ay bx by' cx cy ∧ zt ax ay bx by' cx cy ≤ 2 * (B * B) := by
  unfold zt
  have a1 := mul_bd (u := bx - ax) (v := cy - ay) (B := B) (C := B) (by omega) (by omega) (by omega) (by omega)
  have a2 := mul_bd (u := by' - ay) (v := cx - ax) (B := B) (C := B) (by omega) (by omega) (by omega) (by omega)
  omega
theorem zt_scale (c ax ay bx by' cx cy : Int) : zt (c * ax) (c * ay) (c * bx) (c * by') (c * cx) (c * cy) = c * c * zt ax ay bx by' cx cy := by
  unfold zt; grind
theorem iI_2 (z : Int) : 2 * iI z = iI (2 * z) := iI_mul 2 z
theorem g_in_iI {v lo hi : Int} (h1 : -2 ^ 31 ≤ v) (h2 : v < 2 ^ 31) (h3 : -2 ^ 31 ≤ lo) (h4 : lo < 2 ^ 31) (h5 : -2 ^ 31 ≤ hi) (h6 : hi < 2 ^ 31) : g_in (iI v) (iI lo) (iI hi) = decide (lo ≤ v ∧ v ≤ hi) := by
  unfold g_in
  rw [Bool.eq_iff_iff, Bool.and_eq_true, Bool.not_eq_true', Bool.not_eq_true', decide_eq_false_iff_not, decide_eq_false_iff_not, decide_eq_true_iff, iI_lt h1 h2 h3 h4, iI_lt h5 h6 h1 h2]
  omega
theorem g_min_iI {a b : Int} (h1 : -2 ^ 31 ≤ a) (h2 : a < 2 ^ 31) (h3 : -2 ^ 31 ≤ b) (h4 : b < 2 ^ 31) : g_min (iI a) (iI b) = iI (min a b) := by
  unfold g_min
  simp only [iI_lt h3 h4 h1 h2]
  split
  · congr 1; omega
  · congr 1; omega
theorem g_max_iI {a b : Int} (h1 : -2 ^ 31 ≤ a) (h2 : a < 2 ^ 31) (h3 : -2 ^ 31 ≤ b) (h4 : b < 2 ^ 31) : g_max (iI a) (iI b) = iI (max a b) := by
  unfold g_max
  simp only [iI_lt h1 h2 h3 h4]
  split
  · congr 1; omega
  · congr 1; omega
/-- on a side, of integers -/
def zon (ax ay bx by' x y : Int) : Bool := decide (zt ax ay bx by' x y = 0 ∧ min ax bx ≤ x ∧ x ≤ max ax bx ∧ min ay by' ≤ y ∧ y ≤ max ay by')
theorem g_on_iI {ax ay bx by' x y : Int} {B : Int} (hB : B ≤ 1000) (h1 : 0 ≤ ax ∧ ax ≤ B) (h2 : 0 ≤ ay ∧ ay ≤ B) (h3 : 0 ≤ bx ∧ bx ≤ B) (h4 : 0 ≤ by' ∧ by' ≤ B) (h5 : 0 ≤ x ∧ x ≤ B) (h6 : 0 ≤ y ∧ y ≤ B) : g_on (iI ax) (iI ay) (iI bx) (iI by') (iI x) (iI y) = zon ax ay bx by' x y := by
  unfold g_on zon
  have hb := zt_bd h1 h2 h3 h4 h5 h6
  have hB2 : B * B ≤ 1000000 := by
    have := mul_bd (u := B) (v := B) (B := 1000) (C := 1000) (by omega) (by omega) (by omega) (by omega)
    omega
  rw [g_turn_iI, g_min_iI (by omega) (by omega) (by omega) (by omega), g_min_iI (by omega) (by omega) (by omega) (by omega), g_max_iI (by omega) (by omega) (by omega) (by omega), g_max_iI (by omega) (by omega) (by omega) (by omega), g_in_iI (by omega) (by omega) (by omega) (by omega) (by omega) (by omega), g_in_iI (by omega) (by omega) (by omega) (by omega) (by omega) (by omega)]
  have e0 : (iI (zt ax ay bx by' x y) = 0) = (zt ax ay bx by' x y = 0) := by
    rw [show (0 : Int32) = iI 0 from rfl, iI_eq (by omega) (by omega) (by omega) (by omega)]
  simp only [e0]
  rw [Bool.eq_iff_iff]
  simp only [Bool.and_eq_true, decide_eq_true_iff, and_assoc]
theorem zon_2 (ax ay bx by' x y : Int) : zon (2 * ax) (2 * ay) (2 * bx) (2 * by') (2 * x) (2 * y) = zon ax ay bx by' x y := by
  unfold zon
  rw [zt_scale, Bool.eq_iff_iff, decide_eq_true_iff, decide_eq_true_iff]
  omega
/-- doubles and singles -/
theorem g_on_2 {a b c d x y : Nat} (h1 : a < 10) (h2 : b < 10) (h3 : c < 10) (h4 : d < 10) (h5 : x < 10) (h6 : y < 10) : g_on (2 * nI a) (2 * nI b) (2 * nI c) (2 * nI d) (2 * nI x) (2 * nI y) = g_on (nI a) (nI b) (nI c) (nI d) (nI x) (nI y) := by
  simp only [iI_nI, iI_2]
  rw [g_on_iI (B := 100) (by omega) (by omega) (by omega) (by omega) (by omega) (by omega) (by omega), g_on_iI (B := 100) (by omega) (by omega) (by omega) (by omega) (by omega) (by omega) (by omega), zon_2]
theorem cr_2 {a b c d x y : Nat} (h1 : a < 10) (h2 : b < 10) (h3 : c < 10) (h4 : d < 10) (h5 : x < 10) (h6 : y < 10) : Bd.cr 2 (nI a) (nI b) (nI c) (nI d) (2 * nI x) (2 * nI y) = Bd.cr 1 (nI a) (nI b) (nI c) (nI d) (nI x) (nI y) := by
  unfold Bd.cr
  simp only [Int32.one_mul, iI_nI, iI_2, g_turn_iI, zt_scale]
  have hb := zt_bd (ax := a) (ay := b) (bx := c) (by' := d) (cx := x) (cy := y) (B := 10) (by omega) (by omega) (by omega) (by omega) (by omega) (by omega)
  generalize zt a b c d x y = t at hb
  have e1 : ∀ u v : Nat, u < 10 → v < 10 → (iI (2 * (u : Int)) < iI (2 * (v : Int))) = (iI (u : Int) < iI (v : Int)) := by
    intro u v hu hv
    rw [iI_lt (by omega) (by omega) (by omega) (by omega), iI_lt (by omega) (by omega) (by omega) (by omega)]
    rw [eq_iff_iff]; omega
  have e2 : (0 < iI (2 * 2 * t)) = (0 < iI t) := by
    rw [show (0 : Int32) = iI 0 from rfl, iI_lt (by omega) (by omega) (by omega) (by omega), iI_lt (by omega) (by omega) (by omega) (by omega)]
    rw [eq_iff_iff]; omega
  have e3 : (iI (2 * 2 * t) < 0) = (iI t < 0) := by
    rw [show (0 : Int32) = iI 0 from rfl, iI_lt (by omega) (by omega) (by omega) (by omega), iI_lt (by omega) (by omega) (by omega) (by omega)]
    rw [eq_iff_iff]; omega
  simp only [e1 y b h6 h2, e1 y d h6 h4, e1 b d h2 h4, e2, e3]
section
variable {P : Bd}
theorem Bd.onB_2 (hP : P.fit) {u v : Nat} (hu : u < 10) (hv : v < 10) : P.onB 2 (2 * nI u) (2 * nI v) = P.onB 1 (nI u) (nI v) := by
  unfold Bd.onB
  refine anyTo_congr fun i hi => ?_
  obtain ⟨a1, b1, h1, h2, h3, h4⟩ := hP.2 i hi
  obtain ⟨a2, b2, h5, h6, h7, h8⟩ := hP.2 _ (P.nx_lt hi)
  rw [h3, h4, h7, h8, g_on_2 h1 h2 h5 h6 hu hv]
  simp only [Int32.one_mul]
theorem Bd.inB_2 (hP : P.fit) {u v : Nat} (hu : u < 10) (hv : v < 10) : ∀ i, i ≤ P.n → P.inB 2 (2 * nI u) (2 * nI v) i = P.inB 1 (nI u) (nI v) i := by
  intro i
  induction i with
  | zero => intro _; rfl
  | succ i ih =>
    intro hi
    obtain ⟨a1, b1, h1, h2, h3, h4⟩ := hP.2 i (by omega)
    obtain ⟨a2, b2, h5, h6, h7, h8⟩ := hP.2 _ (P.nx_lt (i := i) (by omega))
    simp only [Bd.inB]
    rw [ih (by omega), h3, h4, h7, h8, cr_2 h1 h2 h5 h6 hu hv]
theorem Bd.place_v (hP : P.fit) {u v : Nat} (hu : u < 10) (hv : v < 10) : P.place (2 * nI u) (2 * nI v) = if P.onB 1 (nI u) (nI v) = true then 1 else if P.inB 1 (nI u) (nI v) P.n = true then 2 else 0 := by
  unfold Bd.place
  simp only [Bd.onB_2 hP hu hv, Bd.inB_2 hP hu hv P.n (Nat.le_refl _)]
theorem Bd.place_2 (hP : P.fit) {u v : Nat} (hu : u < 10) (hv : v < 10) : decide (P.place (2 * nI u) (2 * nI v) = 2) = (!P.onB 1 (nI u) (nI v) && P.inB 1 (nI u) (nI v) P.n) := by
  simp only [Bd.place_v hP hu hv]
  cases P.onB 1 (nI u) (nI v) <;> cases P.inB 1 (nI u) (nI v) P.n <;> decide
theorem Bd.place_1 (hP : P.fit) {u v : Nat} (hu : u < 10) (hv : v < 10) : decide (P.place (2 * nI u) (2 * nI v) = 1) = P.onB 1 (nI u) (nI v) := by
  simp only [Bd.place_v hP hu hv]
  cases P.onB 1 (nI u) (nI v) <;> cases P.inB 1 (nI u) (nI v) P.n <;> decide
theorem Bd.place_0 (hP : P.fit) {u v : Nat} (hu : u < 10) (hv : v < 10) : decide (P.place (2 * nI u) (2 * nI v) ≤ 0) = !(P.onB 1 (nI u) (nI v) || P.inB 1 (nI u) (nI v) P.n) := by
  simp only [Bd.place_v hP hu hv]
  cases P.onB 1 (nI u) (nI v) <;> cases P.inB 1 (nI u) (nI v) P.n <;> decide
end
