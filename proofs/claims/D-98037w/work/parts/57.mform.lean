/-! PURE LAYER 18: the model's forms -/
/-- turned by so many quarters, turned over ahead of that or not -/
def mX (q : Nat) (ov : Bool) (x y : Int32) : Int32 := if q % 4 = 0 then (if ov = true then -x else x) else if q % 4 = 1 then -y else if q % 4 = 2 then -(if ov = true then -x else x) else - -y
def mY (q : Nat) (ov : Bool) (x y : Int32) : Int32 := if q % 4 = 0 then y else if q % 4 = 1 then (if ov = true then -x else x) else if q % 4 = 2 then -y else -(if ov = true then -x else x)
/-- the corner at place k of the way from i on, forth or back -/
def ixM (n i : Nat) (fw : Bool) (k : Nat) : Nat := if fw = true then (i + k) % n else (i + n - k) % n
def lowMX (P : Bd) (q : Nat) (ov : Bool) : Int32 := minTo 999 (fun i => mX q ov (P.x i) (P.y i)) P.n
def lowMY (P : Bd) (q : Nat) (ov : Bool) : Int32 := minTo 999 (fun i => mY q ov (P.x i) (P.y i)) P.n
/-- the band turned and slid -/
def tM (P : Bd) (q : Nat) (ov : Bool) (j : Nat) : Int32 := if j % 2 = 0 then mX q ov (P.x (j / 2)) (P.y (j / 2)) - lowMX P q ov else mY q ov (P.x (j / 2)) (P.y (j / 2)) - lowMY P q ov
def rowM (P : Bd) (q : Nat) (ov : Bool) (i : Nat) (fw : Bool) (j : Nat) : Int32 := tM P q ov (2 * ixM P.n i fw (j / 2) + j % 2)
/-- the way of the component that turns alike -/
def wayOf (q : Nat) (ov : Bool) : Nat := if ov = true then (if q = 0 then 4 else if q = 1 then 7 else if q = 2 then 6 else 5) else q
theorem mX_tX {q : Nat} (hq : q < 4) (ov : Bool) (x y : Int32) : mX q ov x y = tX (wayOf q ov) x y := by
  have : q = 0 ∨ q = 1 ∨ q = 2 ∨ q = 3 := by omega
  rcases this with rfl | rfl | rfl | rfl <;> cases ov <;> simp [mX, tX, wayOf]
theorem mY_tY {q : Nat} (hq : q < 4) (ov : Bool) (x y : Int32) : mY q ov x y = tY (wayOf q ov) x y := by
  have : q = 0 ∨ q = 1 ∨ q = 2 ∨ q = 3 := by omega
  rcases this with rfl | rfl | rfl | rfl <;> cases ov <;> simp [mY, tY, wayOf]
theorem tXY_small {w a b : Nat} (ha : a < 10) (hb : b < 10) : (tX w (nI a) (nI b) < 1000000000 ∧ tX w (nI a) (nI b) < 999) ∧ (tY w (nI a) (nI b) < 1000000000 ∧ tY w (nI a) (nI b) < 999) := by
  have h : ∀ a, a < 10 → ((nI a < 1000000000 ∧ nI a < 999) ∧ (-nI a < 1000000000 ∧ -nI a < 999)) ∧ ((- -nI a) < 1000000000 ∧ (- -nI a) < 999) := by decide
  unfold tX tY
  have h1 := h a ha
  have h2 := h b hb
  constructor
  · repeat' split
    all_goals first | exact h1.1.1 | exact h1.1.2 | exact h1.2 | exact h2.1.1 | exact h2.1.2 | exact h2.2
  · repeat' split
    all_goals first | exact h1.1.1 | exact h1.1.2 | exact h1.2 | exact h2.1.1 | exact h2.1.2 | exact h2.2
theorem lowM_X {P : Bd} (hP : P.fit) (h0 : 0 < P.n) {q : Nat} (hq : q < 4) (ov : Bool) : lowMX P q ov = lowX P (wayOf q ov) := by
  unfold lowMX lowX
  rw [minTo_eq (b := 1000000000) h0 (fun i hi => ?_) (fun i hi => ?_)]
  · congr 1; funext i; exact mX_tX hq ov _ _
  · obtain ⟨a, b, ha, hb, e1, e2⟩ := hP.2 i hi
    rw [mX_tX hq, e1, e2]; exact (tXY_small ha hb).1.2
  · obtain ⟨a, b, ha, hb, e1, e2⟩ := hP.2 i hi
    rw [mX_tX hq, e1, e2]; exact (tXY_small ha hb).1.1
theorem lowM_Y {P : Bd} (hP : P.fit) (h0 : 0 < P.n) {q : Nat} (hq : q < 4) (ov : Bool) : lowMY P q ov = lowY P (wayOf q ov) := by
  unfold lowMY lowY
  rw [minTo_eq (b := 1000000000) h0 (fun i hi => ?_) (fun i hi => ?_)]
  · congr 1; funext i; exact mY_tY hq ov _ _
  · obtain ⟨a, b, ha, hb, e1, e2⟩ := hP.2 i hi
    rw [mY_tY hq, e1, e2]; exact (tXY_small ha hb).2.2
  · obtain ⟨a, b, ha, hb, e1, e2⟩ := hP.2 i hi
    rw [mY_tY hq, e1, e2]; exact (tXY_small ha hb).2.1
theorem ixM_lt {n i k : Nat} (h0 : 0 < n) (fw : Bool) : ixM n i fw k < n := by unfold ixM; split <;> exact Nat.mod_lt _ h0
theorem mod_shift {n a b c : Nat} (h : a = b + c * n) : a % n = b % n := by rw [h, Nat.add_mul_mod_self_right]
theorem ixM_C {n i : Nat} (hi : i < n) (fw : Bool) {k : Nat} (hk : k < n) : ixM n i fw k = ixC n (if fw = true then i else n + i) k := by
  unfold ixM ixC
  cases fw with
  | true => simp [hi]
  | false =>
    have : ¬ n + i < n := by omega
    simp only [Bool.false_eq_true, if_false, this]
    exact (mod_shift (c := 2) (by omega)).symm
theorem rowM_C {P : Bd} (hP : P.fit) (h0 : 0 < P.n) {q i : Nat} (hq : q < 4) (ov : Bool) (hi : i < P.n) (fw : Bool) : ∀ j, j < 2 * P.n → rowM P q ov i fw j = rowC P (wayOf q ov) (if fw = true then i else P.n + i) j := by
  intro j hj
  unfold rowM tM rowC
  rw [ixM_C hi fw (by omega), lowM_X hP h0 hq, lowM_Y hP h0 hq]
  rw [show (2 * ixC P.n (if fw = true then i else P.n + i) (j / 2) + j % 2) % 2 = j % 2 by omega, show (2 * ixC P.n (if fw = true then i else P.n + i) (j / 2) + j % 2) / 2 = ixC P.n (if fw = true then i else P.n + i) (j / 2) by omega, mX_tX hq, mY_tY hq]
/-- rows of the model up to a start, and there the way back or not -/
def setM (P : Bd) (Z : Nat → Bool → Prop) (r : Nat → Int32) : Prop := ∃ q ov i fw, Z q ov ∧ i < P.n ∧ r = rowM P q ov i fw
def quarters (how : Nat) (q : Nat) (ov : Bool) : Prop := q < (if how = 0 then 1 else 4) ∧ (ov = true → how = 2)
theorem setM_C {P : Bd} (hP : P.fit) (h0 : 0 < P.n) {how : Nat} (hh : how < 3) {l : Nat → Int32} (h : Least (setM P (quarters how)) (2 * P.n) l) : Least (setC P (ways how) 0) (2 * P.n) l := by
  obtain ⟨⟨r, r1, r2⟩, h2⟩ := h
  have to : ∀ q ov i fw, quarters how q ov → i < P.n → setC P (ways how) 0 (rowC P (wayOf q ov) (if fw = true then i else P.n + i)) := by
    intro q ov i fw hz hi
    obtain ⟨z1, z2⟩ := hz
    refine ⟨_, _, ?_, ?_, rfl⟩
    · cases fw <;> simp <;> omega
    · left
      unfold wayOf ways
      have : how = 0 ∨ how = 1 ∨ how = 2 := by omega
      rcases this with rfl | rfl | rfl
      · cases ov
        · simp at z1 ⊢; omega
        · exact absurd (z2 rfl) (by decide)
      · cases ov
        · simp at z1 ⊢; omega
        · exact absurd (z2 rfl) (by decide)
      · cases ov
        · simp at z1 ⊢; omega
        · simp at z1 ⊢; repeat' split
          all_goals omega
  have hq4 : ∀ q ov, quarters how q ov → q < 4 := by
    intro q ov hz
    obtain ⟨z1, z2⟩ := hz
    split at z1 <;> omega
  refine ⟨?_, ?_⟩
  · obtain ⟨q, ov, i, fw, hz, hi, rfl⟩ := r1
    exact ⟨_, to q ov i fw hz hi, fun k hk => (r2 k hk).trans (rowM_C hP h0 (hq4 q ov hz) ov hi fw k hk)⟩
  · rintro s ⟨v, k, hk, hv, rfl⟩ hl
    have hv : v < ways how := by omega
    have back : ∃ q ov i fw, quarters how q ov ∧ i < P.n ∧ v = wayOf q ov ∧ k = (if fw = true then i else P.n + i) := by
      have hk' : ∃ i fw, i < P.n ∧ k = (if fw = true then i else P.n + i) := by
        by_cases z : k < P.n
        · exact ⟨k, true, z, rfl⟩
        · exact ⟨k - P.n, false, by omega, by simp; omega⟩
      obtain ⟨i, fw, hi, hk'⟩ := hk'
      have hv' : ∃ q ov, quarters how q ov ∧ v = wayOf q ov := by
        have : how = 0 ∨ how = 1 ∨ how = 2 := by omega
        rcases this with rfl | rfl | rfl
        · exact ⟨0, false, ⟨by decide, fun z => by cases z⟩, by have : v < 1 := hv; simp [wayOf]; omega⟩
        · exact ⟨v, false, ⟨hv, fun z => by cases z⟩, rfl⟩
        · have hv : v < 8 := hv
          by_cases z : v < 4
          · exact ⟨v, false, ⟨z, fun z => by cases z⟩, rfl⟩
          · have : v = 4 ∨ v = 5 ∨ v = 6 ∨ v = 7 := by omega
            rcases this with rfl | rfl | rfl | rfl
            · exact ⟨0, true, ⟨by decide, fun _ => rfl⟩, rfl⟩
            · exact ⟨3, true, ⟨by decide, fun _ => rfl⟩, rfl⟩
            · exact ⟨2, true, ⟨by decide, fun _ => rfl⟩, rfl⟩
            · exact ⟨1, true, ⟨by decide, fun _ => rfl⟩, rfl⟩
      obtain ⟨q, ov, hz, hv'⟩ := hv'
      exact ⟨q, ov, i, fw, hz, hi, hv', hk'⟩
    obtain ⟨q, ov, i, fw, hz, hi, rfl, rfl⟩ := back
    refine h2 (rowM P q ov i fw) ⟨q, ov, i, fw, hz, hi, rfl⟩ (hl.congr (fun k hk => ?_) (fun _ _ => rfl))
    exact (rowM_C hP h0 (hq4 q ov hz) ov hi fw k hk).symm
/-! small numbers in the rows -/
theorem minTo_le {a : Int32} {f : Nat → Int32} {n i : Nat} (hi : i < n) : minTo a f n = f i ∨ minTo a f n < f i := by
  induction n with
  | zero => omega
  | succ n ih =>
    simp only [minTo]
    by_cases e : i = n
    · subst e
      split
      · exact Or.inl rfl
      · rename_i q; rcases i_tri (minTo a f i) (f i) with z | z | z
        · exact Or.inr z
        · exact Or.inl z
        · exact absurd z q
    · have ih := ih (by omega)
      split
      · rename_i q
        rcases ih with z | z
        · rw [z] at q; exact Or.inr q
        · exact Or.inr (i_lt_trans q z)
      · exact ih
theorem minTo_mem {a : Int32} {f : Nat → Int32} {n : Nat} (h0 : 0 < n) (ha : ∀ i, i < n → f i < a) : ∃ i, i < n ∧ minTo a f n = f i := by
  induction n with
  | zero => omega
  | succ n ih =>
    simp only [minTo]
    split
    · exact ⟨n, by omega, rfl⟩
    · rename_i q
      by_cases e : n = 0
      · subst e; exact absurd (ha 0 (by omega)) q
      · obtain ⟨i, hi, h⟩ := ih (by omega) (fun i hi => ha i (by omega))
        exact ⟨i, by omega, h⟩
theorem tXY_iI {w a b : Nat} (ha : a < 10) (hb : b < 10) : (∃ z : Int, -10 < z ∧ z < 10 ∧ tX w (nI a) (nI b) = iI z) ∧ (∃ z : Int, -10 < z ∧ z < 10 ∧ tY w (nI a) (nI b) = iI z) := by
  have h : ∀ a : Nat, a < 10 → (∃ z : Int, -10 < z ∧ z < 10 ∧ nI a = iI z) ∧ (∃ z : Int, -10 < z ∧ z < 10 ∧ -nI a = iI z) ∧ (∃ z : Int, -10 < z ∧ z < 10 ∧ - -nI a = iI z) := by
    intro a ha
    refine ⟨⟨a, by omega, by omega, iI_nI a⟩, ⟨-a, by omega, by omega, by rw [iI_nI, iI_neg]⟩, ⟨a, by omega, by omega, by rw [iI_nI, iI_neg, iI_neg]; congr 1; omega⟩⟩
  have h1 := h a ha
  have h2 := h b hb
  unfold tX tY
  constructor
  · repeat' split
    all_goals first | exact h1.1 | exact h1.2.1 | exact h1.2.2 | exact h2.1 | exact h2.2.1 | exact h2.2.2
  · repeat' split
    all_goals first | exact h1.1 | exact h1.2.1 | exact h1.2.2 | exact h2.1 | exact h2.2.1 | exact h2.2.2
theorem rowC_small {P : Bd} (hP : P.fit) (h0 : 0 < P.n) (w k j : Nat) : ∃ n : Nat, n < 1000 ∧ rowC P w k j = nI n := by
  have hx := ixC_lt (n := P.n) (k := k) (i := j / 2) h0
  obtain ⟨a, b, ha, hb, e1, e2⟩ := hP.2 _ hx
  have sub : ∀ (u v : Int), -10 < u → u < 10 → -10 < v → v < 10 → (iI v = iI u ∨ iI v < iI u) → ∃ n : Nat, n < 1000 ∧ iI u - iI v = nI n := by
    intro u v h1 h2 h3 h4 h5
    rw [iI_eq (by omega) (by omega) (by omega) (by omega), iI_lt (by omega) (by omega) (by omega) (by omega)] at h5
    refine ⟨(u - v).toNat, by omega, ?_⟩
    rw [iI_sub, iI_nI]; congr 1; omega
  unfold rowC
  split
  · obtain ⟨i, hi, h⟩ := minTo_mem (a := 1000000000) (f := fun i => tX w (P.x i) (P.y i)) h0 (fun i hi => by
      obtain ⟨a, b, ha, hb, e1, e2⟩ := hP.2 i hi
      simp only [e1, e2]; exact (tXY_small ha hb).1.1)
    have hle := minTo_le (a := 1000000000) (f := fun i => tX w (P.x i) (P.y i)) hx
    obtain ⟨a', b', ha', hb', e1', e2'⟩ := hP.2 i hi
    unfold lowX
    rw [h] at hle ⊢
    simp only [e1, e2, e1', e2'] at hle ⊢
    obtain ⟨z1, q1, q2, q3⟩ := (tXY_iI (w := w) ha hb).1
    obtain ⟨z2, p1, p2, p3⟩ := (tXY_iI (w := w) ha' hb').1
    rw [q3, p3] at hle ⊢
    exact sub z1 z2 q1 q2 p1 p2 hle
  · obtain ⟨i, hi, h⟩ := minTo_mem (a := 1000000000) (f := fun i => tY w (P.x i) (P.y i)) h0 (fun i hi => by
      obtain ⟨a, b, ha, hb, e1, e2⟩ := hP.2 i hi
      simp only [e1, e2]; exact (tXY_small ha hb).2.1)
    have hle := minTo_le (a := 1000000000) (f := fun i => tY w (P.x i) (P.y i)) hx
    obtain ⟨a', b', ha', hb', e1', e2'⟩ := hP.2 i hi
    unfold lowY
    rw [h] at hle ⊢
    simp only [e1, e2, e1', e2'] at hle ⊢
    obtain ⟨z1, q1, q2, q3⟩ := (tXY_iI (w := w) ha hb).2
    obtain ⟨z2, p1, p2, p3⟩ := (tXY_iI (w := w) ha' hb').2
    rw [q3, p3] at hle ⊢
    exact sub z1 z2 q1 q2 p1 p2 hle
