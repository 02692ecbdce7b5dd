/-! PURE LAYER 3: numbers alone: sides, points, crossings -/
def g_turn (ax ay bx by' cx cy : Int32) : Int32 := (bx - ax) * (cy - ay) - (by' - ay) * (cx - ax)
def g_sg (v : Int32) : Int32 := if v ≤ 0 then if 0 ≤ v then 0 else -1 else 1
def g_in (v lo hi : Int32) : Bool := !(decide (v < lo)) && !(decide (hi < v))
def g_min (a b : Int32) : Int32 := if b < a then b else a
def g_max (a b : Int32) : Int32 := if a < b then b else a
def g_on (ax ay bx by' x y : Int32) : Bool := decide (g_turn ax ay bx by' x y = 0) && (g_in x (g_min ax bx) (g_max ax bx) && g_in y (g_min ay by') (g_max ay by'))
def g_unl (a b : Int32) : Bool := (decide (0 < a) && decide (b < 0)) || (decide (a < 0) && decide (0 < b))
def g_meet (ax ay bx by' cx cy dx dy : Int32) : Int32 :=
  if g_unl (g_turn ax ay bx by' cx cy) (g_turn ax ay bx by' dx dy) && g_unl (g_turn cx cy dx dy ax ay) (g_turn cx cy dx dy bx by') then 1
  else if g_on ax ay bx by' cx cy || (g_on ax ay bx by' dx dy || (g_on cx cy dx dy ax ay || g_on cx cy dx dy bx by')) then 2 else 0
def b2i (b : Bool) : Int32 := if b then 1 else 0
theorem b2i_0 {b : Bool} : b2i b = 0 ↔ b = false := by cases b <;> decide
theorem b2i_1 {b : Bool} : b2i b = 1 ↔ b = true := by cases b <;> decide
theorem i_le {a b : Int32} : a ≤ b ↔ a.toInt ≤ b.toInt := Int32.le_iff_toInt_le
theorem i_lt {a b : Int32} : a < b ↔ a.toInt < b.toInt := Int32.lt_iff_toInt_lt
theorem i_eq {a b : Int32} : a = b ↔ a.toInt = b.toInt := Int32.toInt_inj.symm
theorem i_not_le {a b : Int32} : ¬ a ≤ b ↔ b < a := by rw [i_le, i_lt]; omega
theorem i_not_lt {a b : Int32} : ¬ a < b ↔ b ≤ a := by rw [i_le, i_lt]; omega
theorem f_turn1 (a b c d e f : Int32) : f_X1_turn a b c d e f = some (g_turn a b c d e f) := rfl
theorem f_sign (v : Int32) : f_X10_sign v = some (g_sg v) := by
  unfold f_X10_sign g_sg
  split
  · split <;> rfl
  · rfl
theorem f_turn10 (a b c d e f : Int32) : f_X10_turn a b c d e f = some (g_sg (g_turn a b c d e f)) := by
  unfold f_X10_turn
  rw [f_sign]
  rfl
theorem f_isIn (v a b : Int32) : f_X1_isIn v a b = some (b2i (g_in v a b)) := by
  unfold f_X1_isIn g_in
  by_cases h : v < a
  · simp [h, b2i]
  · by_cases h2 : b < v <;> simp [h, h2, b2i]
theorem f_isIn10 (v a b : Int32) : f_X10_isIn v a b = some (b2i (g_in v a b)) := by
  unfold f_X10_isIn g_in
  by_cases h : v < a
  · simp [h, b2i]
  · by_cases h2 : b < v <;> simp [h, h2, b2i]
theorem f_isOn1 (a b c d e f : Int32) : f_X1_isOn a b c d e f = some (b2i (g_on a b c d e f)) := by
  unfold f_X1_isOn g_on
  rw [f_turn1]
  simp only [Option.bind_some, f_isIn]
  by_cases h : g_turn a b c d e f = 0
  · simp only [h, if_true, decide_true, Bool.true_and]
    change (if b2i (g_in e (g_min a c) (g_max a c)) = 0 then some 0 else if b2i (g_in f (g_min b d) (g_max b d)) = 0 then some 0 else some 1) = _
    cases g_in e (g_min a c) (g_max a c) <;> cases g_in f (g_min b d) (g_max b d) <;> rfl
  · simp [h, b2i]
theorem g_in_mm (v a b : Int32) : g_in v (g_min a b) (g_max a b) = if b ≤ a then g_in v b a else g_in v a b := by
  unfold g_min g_max
  by_cases h : b ≤ a
  · rw [if_pos h]
    by_cases h2 : b < a
    · have h3 : ¬ a < b := by rw [i_lt]; rw [i_lt] at h2; omega
      rw [if_pos h2, if_neg h3]
    · have h3 : a = b := by rw [i_eq]; rw [i_lt] at h2; rw [i_le] at h; omega
      subst h3
      rw [if_neg h2]
  · have h3 : ¬ b < a := by rw [i_lt]; rw [i_le] at h; omega
    have h4 : a < b := by rw [i_lt]; rw [i_le] at h; omega
    rw [if_neg h, if_neg h3, if_pos h4]
theorem f_isBetween (v a b : Int32) : f_X10_isBetween v a b = some (b2i (g_in v (g_min a b) (g_max a b))) := by
  rw [g_in_mm]
  unfold f_X10_isBetween g_in
  by_cases h : b ≤ a
  · simp only [h, if_true]
    by_cases h1 : v < b <;> by_cases h2 : a < v <;> simp [h1, h2, b2i]
  · simp only [h, if_false]
    by_cases h1 : v < a <;> by_cases h2 : b < v <;> simp [h1, h2, b2i]
theorem g_sg_0 (v : Int32) : g_sg v = 0 ↔ v = 0 := by
  unfold g_sg
  by_cases h : v ≤ 0
  · by_cases h2 : 0 ≤ v
    · simp only [h, h2, if_true, true_iff]
      rw [i_eq]; rw [i_le] at h h2; omega
    · simp only [h, h2, if_true, if_false]
      constructor
      · intro q; exact absurd q (by decide)
      · intro q; subst q; exact absurd (by decide) h2
  · simp only [h, if_false]
    constructor
    · intro q; exact absurd q (by decide)
    · intro q; subst q; exact absurd (by decide) h
theorem f_isOn10 (x y a b c d : Int32) : f_X10_isOnSide x y a b c d = some (b2i (g_on a b c d x y)) := by
  unfold f_X10_isOnSide g_on
  simp only [f_turn10, f_isBetween, Option.bind_some, g_sg_0]
  by_cases h : g_turn a b c d x y = 0
  · simp only [h, if_true, decide_true, Bool.true_and]
    cases g_in x (g_min a c) (g_max a c) <;> cases g_in y (g_min b d) (g_max b d) <;> rfl
  · simp [h, b2i]
theorem g_sg_mul (a b : Int32) : 0 ≤ g_sg a * g_sg b ↔ g_unl a b = false := by
  unfold g_sg g_unl
  have hl : ∀ v : Int32, v ≤ 0 ↔ ¬ 0 < v := fun v => by rw [i_le, i_lt]; omega
  have hl2 : ∀ v : Int32, 0 ≤ v ↔ ¬ v < 0 := fun v => by rw [i_le, i_lt]; omega
  simp only [hl, hl2]
  have n1 : ∀ v : Int32, 0 < v → ¬ v < 0 := fun v h q => by rw [i_lt] at h q; omega
  by_cases a1 : 0 < a
  · have a2 := n1 a a1
    by_cases b1 : 0 < b
    · have b2 := n1 b b1
      simp [a1, a2, b1, b2]
    · by_cases b2 : b < 0 <;> simp [a1, a2, b1, b2]
  · by_cases a2 : a < 0
    · by_cases b1 : 0 < b
      · have b2 := n1 b b1
        simp [a1, a2, b1, b2]
      · by_cases b2 : b < 0 <;> simp [a1, a2, b1, b2]
    · simp [a1, a2]
theorem f_unl (a b : Int32) : f_X1_areUnlike a b = some (b2i (g_unl a b)) := by
  unfold f_X1_areUnlike g_unl e_bE
  have hl : ∀ v : Int32, v ≤ 0 ↔ ¬ 0 < v := fun v => by rw [i_le, i_lt]; omega
  have hl2 : ∀ v : Int32, 0 ≤ v ↔ ¬ v < 0 := fun v => by rw [i_le, i_lt]; omega
  have n1 : ∀ v : Int32, 0 < v → ¬ v < 0 := fun v h q => by rw [i_lt] at h q; omega
  simp only [hl, hl2]
  by_cases a1 : 0 < a
  · have a2 := n1 a a1
    by_cases b1 : b < 0 <;> simp [a1, a2, b1, b2i]
  · by_cases a2 : a < 0 <;> by_cases b1 : 0 < b <;> simp [a1, a2, b1, b2i]
theorem f_meets1 (a b c d e f g h : Int32) : f_X1_meets a b c d e f g h = some (g_meet a b c d e f g h) := by
  unfold f_X1_meets g_meet e_bE
  simp only [f_turn1, f_unl, f_isOn1, Option.bind_some]
  generalize g_unl (g_turn a b c d e f) (g_turn a b c d g h) = u1
  generalize g_unl (g_turn e f g h a b) (g_turn e f g h c d) = u2
  generalize g_on a b c d e f = o1
  generalize g_on a b c d g h = o2
  generalize g_on e f g h a b = o3
  generalize g_on e f g h c d = o4
  revert u1 u2 o1 o2 o3 o4
  decide
theorem f_meet10 (a b c d e f g h : Int32) : f_X10_meet a b c d e f g h = some (g_meet a b c d e f g h) := by
  unfold f_X10_meet g_meet e_bE
  simp only [f_turn10, f_isOn10, Option.bind_some, g_sg_mul]
  generalize g_unl (g_turn a b c d e f) (g_turn a b c d g h) = u1
  generalize g_unl (g_turn e f g h a b) (g_turn e f g h c d) = u2
  generalize g_on a b c d e f = o1
  generalize g_on a b c d g h = o2
  generalize g_on e f g h a b = o3
  generalize g_on e f g h c d = o4
  revert u1 u2 o1 o2 o3 o4
  decide
