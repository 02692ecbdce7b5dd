/-! PURE LAYER 4: greatest common divisors of small numbers -/
def g_gcd (a b : Int32) : Int32 := nI (Nat.gcd a.toInt.natAbs b.toInt.natAbs)
/-- -9 .. 9 -/
def g_s9 (a : Int32) : Prop := ∃ i : Nat, i < 19 ∧ a = nI i - 9
theorem common1_F (F : Nat) : ∀ (n : Nat) (a b : Int32), f_X1_common F n a b = f_X1_common 0 n a b := by
  intro n
  induction n with
  | zero => intro a b; rfl
  | succ n ih =>
    intro a b
    show fb_X1_common F (f_X1_common F n) a b = fb_X1_common 0 (f_X1_common 0 n) a b
    rw [show f_X1_common F n = f_X1_common 0 n from funext fun a => funext fun b => ih a b]
    rfl
theorem common1_fin : ∀ i : Nat, i < 19 → ∀ j : Nat, j < 19 → f_X1_common 0 32 (nI i - 9) (nI j - 9) = some (g_gcd (nI i - 9) (nI j - 9)) := by decide +kernel
theorem f_common1 (F : Nat) {a b : Int32} (ha : g_s9 a) (hb : g_s9 b) : f_X1_common F 32 a b = some (g_gcd a b) := by
  obtain ⟨i, hi, rfl⟩ := ha
  obtain ⟨j, hj, rfl⟩ := hb
  rw [common1_F]
  exact common1_fin i hi j hj
theorem common10_mono (F k : Nat) : ∀ (n : Nat) (a b v : Int32), lp_X10_common_10 0 n a b = some v → lp_X10_common_10 F (n + k) a b = some v := by
  intro n
  induction n with
  | zero => intro a b v e; cases e
  | succ n ih =>
    intro a b v e
    rw [Nat.succ_add]
    unfold lp_X10_common_10 at e ⊢
    by_cases h : b ≤ 0
    · rw [if_pos h] at e ⊢; exact e
    · rw [if_neg h] at e ⊢
      by_cases h2 : b = 0
      · rw [if_pos h2] at e; cases e
      · rw [if_neg h2] at e ⊢
        exact ih _ _ _ e
def g_abs (a : Int32) : Int32 := if 0 ≤ a then a else -a
theorem f_size (a : Int32) : f_X10_size a = some (g_abs a) := by
  unfold f_X10_size g_abs
  split <;> rfl
theorem common10_fin : ∀ i : Nat, i < 19 → ∀ j : Nat, j < 19 → lp_X10_common_10 0 20 (g_abs (nI i - 9)) (g_abs (nI j - 9)) = some (g_gcd (nI i - 9) (nI j - 9)) := by decide +kernel
theorem f_common10 {F : Nat} (hF : 20 ≤ F) {a b : Int32} (ha : g_s9 a) (hb : g_s9 b) : f_X10_common F a b = some (g_gcd a b) := by
  obtain ⟨i, hi, rfl⟩ := ha
  obtain ⟨j, hj, rfl⟩ := hb
  obtain ⟨k, rfl⟩ := Nat.le.dest hF
  unfold f_X10_common
  rw [f_size, Option.bind_some, f_size, Option.bind_some, common10_mono (20 + k) k 20 _ _ _ (common10_fin i hi j hj)]
  rfl
theorem g_s9_sub {i j : Nat} (hi : i < 10) (hj : j < 10) : g_s9 (nI i - nI j) := by
  refine ⟨i + 9 - j, by omega, ?_⟩
  have : ∀ i : Nat, i < 10 → ∀ j : Nat, j < 10 → nI i - nI j = nI (i + 9 - j) - 9 := by decide +kernel
  exact this i hi j hj
