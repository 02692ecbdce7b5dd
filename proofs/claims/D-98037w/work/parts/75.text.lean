/-! PURE LAYER 36: the text of calls, its length -/
def numL (v : Int32) : List Int32 := if 0 ≤ v then [32, 48 + g_abs v] else [32, 45, 48 + g_abs v]
def stepL (P : Bd) (i j : Nat) : List Int32 := [98, 121] ++ numL (P.x j - P.x i) ++ numL (P.y j - P.y i) ++ [59]
def headL (P : Bd) (f : Nat) : List Int32 := [97, 116] ++ numL (P.x f) ++ numL (P.y f) ++ [59]
/-- one corner on -/
def Bd.go (P : Bd) (fw : Bool) (i : Nat) : Nat := if fw = true then P.nx i else P.pv i
def Bd.goN (P : Bd) (fw : Bool) (f : Nat) : Nat → Nat
  | 0 => f
  | k + 1 => P.go fw (P.goN fw f k)
def wrL (P : Bd) (f : Nat) (fw : Bool) : Nat → List Int32
  | 0 => headL P f
  | k + 1 => wrL P f fw k ++ stepL P (P.goN fw f k) (P.goN fw f (k + 1))
def neg1 (v : Int32) : Nat := if 0 ≤ v then 0 else 1
def sumN (g : Nat → Nat) : Nat → Nat
  | 0 => 0
  | n + 1 => sumN g n + g n
theorem sumN_congr {f g : Nat → Nat} {n : Nat} (h : ∀ i, i < n → f i = g i) : sumN f n = sumN g n := by
  induction n with
  | zero => rfl
  | succ n ih => simp only [sumN]; rw [ih fun i hi => h i (by omega), h n (by omega)]
theorem sumN_shift (g : Nat → Nat) (n : Nat) : sumN (fun k => g (k + 1)) n + g 0 = sumN g n + g n := by
  induction n with
  | zero => simp [sumN]
  | succ n ih => simp only [sumN]; omega
theorem numL_len (v : Int32) : (numL v).length = 2 + neg1 v := by unfold numL neg1; split <;> rfl
theorem stepL_len (P : Bd) (i j : Nat) : (stepL P i j).length = 7 + (neg1 (P.x j - P.x i) + neg1 (P.y j - P.y i)) := by
  unfold stepL
  simp only [List.length_append, numL_len, List.length_cons, List.length_nil]; omega
def negs (P : Bd) (fw : Bool) (i : Nat) : Nat := neg1 (P.x (P.go fw i) - P.x i) + neg1 (P.y (P.go fw i) - P.y i)
theorem wrL_len (P : Bd) (f : Nat) (fw : Bool) (k : Nat) : (wrL P f fw k).length = (headL P f).length + 7 * k + sumN (fun j => negs P fw (P.goN fw f j)) k := by
  induction k with
  | zero => rfl
  | succ k ih =>
    simp only [wrL, List.length_append, ih, stepL_len, sumN]
    have : neg1 (P.x (P.goN fw f (k + 1)) - P.x (P.goN fw f k)) + neg1 (P.y (P.goN fw f (k + 1)) - P.y (P.goN fw f k)) = negs P fw (P.goN fw f k) := rfl
    omega
theorem headL_len {P : Bd} (hP : P.fit) {f : Nat} (hf : f < P.n) : (headL P f).length = 7 := by
  obtain ⟨a, b, ha, hb, e1, e2⟩ := hP.2 f hf
  unfold headL
  simp only [List.length_append, numL_len, List.length_cons, List.length_nil, e1, e2]
  have : ∀ a : Nat, a < 10 → neg1 (nI a) = 0 := by decide
  rw [this a ha, this b hb]
theorem go_lt {P : Bd} {fw : Bool} {i : Nat} (h : i < P.n) : P.go fw i < P.n := by
  unfold Bd.go; split
  · exact P.nx_lt h
  · exact P.pv_lt h
theorem goN_lt {P : Bd} {fw : Bool} {f : Nat} (h : f < P.n) (k : Nat) : P.goN fw f k < P.n := by
  induction k with
  | zero => exact h
  | succ k ih => exact go_lt ih
theorem goN_fw {P : Bd} {f : Nat} (h : f < P.n) (k : Nat) : P.goN true f k = (f + k) % P.n := by
  induction k with
  | zero => rw [Nat.add_zero, Nat.mod_eq_of_lt h]; rfl
  | succ k ih =>
    show P.nx (P.goN true f k) = _
    rw [ih, ← P.nx_mod (Nat.mod_lt _ (by omega)), Nat.mod_add_mod]; rfl
theorem goN_bw {P : Bd} {f : Nat} (h : f < P.n) {k : Nat} (hk : k ≤ P.n) : P.goN false f k = (f + P.n - k) % P.n := by
  induction k with
  | zero => rw [Nat.sub_zero, Nat.add_mod_right, Nat.mod_eq_of_lt h]; rfl
  | succ k ih =>
    show P.pv (P.goN false f k) = _
    rw [ih (by omega), ← P.pv_mod (Nat.mod_lt _ (by omega))]
    have : (f + P.n - k) % P.n + P.n - 1 = (f + P.n - k) % P.n + (P.n - 1) := by omega
    rw [this, Nat.mod_add_mod]
    exact mod_shift (c := 1) (by omega)
theorem goN_n {P : Bd} {fw : Bool} {f : Nat} (h : f < P.n) : P.goN fw f P.n = f := by
  cases fw with
  | true => rw [goN_fw h, Nat.add_mod_right, Nat.mod_eq_of_lt h]
  | false => rw [goN_bw h (Nat.le_refl _), show f + P.n - P.n = f by omega, Nat.mod_eq_of_lt h]
theorem goN_s (P : Bd) (fw : Bool) (f k : Nat) : P.goN fw (P.go fw f) k = P.goN fw f (k + 1) := by
  induction k with
  | zero => rfl
  | succ k ih =>
    show P.go fw (P.goN fw (P.go fw f) k) = P.go fw (P.goN fw f (k + 1))
    rw [ih]
/-- signs less on the way round, wherever it begins -/
def negA (P : Bd) (fw : Bool) : Nat := sumN (fun j => negs P fw (P.goN fw 0 j)) P.n
theorem negA_s {P : Bd} {fw : Bool} {f : Nat} (h : f < P.n) : sumN (fun j => negs P fw (P.goN fw (P.go fw f) j)) P.n = sumN (fun j => negs P fw (P.goN fw f j)) P.n := by
  have := sumN_shift (fun j => negs P fw (P.goN fw f j)) P.n
  simp only [goN_n h] at this
  have e : sumN (fun j => negs P fw (P.goN fw (P.go fw f) j)) P.n = sumN (fun k => negs P fw (P.goN fw f (k + 1))) P.n := sumN_congr fun i _ => by rw [goN_s]
  have h0 : negs P fw (P.goN fw f 0) = negs P fw f := rfl
  rw [e]; omega
theorem negA_all {P : Bd} (fw : Bool) {f : Nat} (h : f < P.n) : sumN (fun j => negs P fw (P.goN fw f j)) P.n = negA P fw := by
  induction f with
  | zero => rfl
  | succ f ih =>
    rw [← ih (by omega)]
    cases fw with
    | true =>
      have : P.go true f = f + 1 := by unfold Bd.go Bd.nx; rw [if_pos rfl, if_neg (by omega)]
      rw [← this]; exact negA_s (by omega)
    | false =>
      have : P.go false (f + 1) = f := by unfold Bd.go Bd.pv; rw [if_neg (by decide), if_neg (by omega)]; omega
      have e := negA_s (fw := false) h
      rw [this] at e
      exact e.symm
theorem wrL_full {P : Bd} (hP : P.fit) {f : Nat} (fw : Bool) (h : f < P.n) : (wrL P f fw P.n).length = 7 + 7 * P.n + negA P fw := by
  rw [wrL_len, headL_len hP h, negA_all fw h]
theorem neg1_le (v : Int32) : neg1 v ≤ 1 := by unfold neg1; split <;> omega
theorem negs_le (P : Bd) (fw : Bool) (i : Nat) : negs P fw i ≤ 2 := by
  have h1 := neg1_le (P.x (P.go fw i) - P.x i)
  have h2 := neg1_le (P.y (P.go fw i) - P.y i)
  unfold negs; omega
theorem sumN_le {g : Nat → Nat} {n c : Nat} (h : ∀ i, i < n → g i ≤ c) : sumN g n ≤ c * n := by
  induction n with
  | zero => exact Nat.le_refl _
  | succ n ih =>
    have h1 := ih fun i hi => h i (by omega)
    have h2 := h n (by omega)
    simp only [sumN, Nat.mul_succ]; omega
theorem wrL_le {P : Bd} (hP : P.fit) {f : Nat} (fw : Bool) (h : f < P.n) {k : Nat} (hk : k ≤ P.n) : (wrL P f fw k).length ≤ 7 + 9 * k := by
  rw [wrL_len, headL_len hP h]
  have := sumN_le (g := fun j => negs P fw (P.goN fw f j)) (n := k) (c := 2) fun i _ => negs_le P fw _
  omega
/-- characters stay what they are as bytes -/
def okC (c : Int32) : Prop := (c.toInt8.toInt32).toInt8.toInt32 = c
theorem okC_abs {v : Int32} (h : g_s9 v) : okC (48 + g_abs v) := by
  obtain ⟨i, hi, rfl⟩ := h
  have : ∀ i : Nat, i < 19 → okC (48 + g_abs (nI i - 9)) := by unfold okC; decide +kernel
  exact this i hi
theorem g_s9_nI {a : Nat} (h : a < 10) : g_s9 (nI a) := by
  have := g_s9_sub h (show 0 < 10 by decide)
  rw [show nI a - nI 0 = nI a from Int32.sub_zero _] at this
  exact this
/-! which way is shorter -/
theorem sg_neg {a b : Nat} (ha : a < 10) (hb : b < 10) : (g_sg (nI a - nI b)).toInt = (neg1 (nI b - nI a) : Int) - neg1 (nI a - nI b) := by
  have : ∀ a, a < 10 → ∀ b, b < 10 → (g_sg (nI a - nI b)).toInt = (neg1 (nI b - nI a) : Int) - neg1 (nI a - nI b) := by decide +kernel
  exact this a ha b hb
theorem negA_fw (P : Bd) (h0 : 0 < P.n) : negA P true = sumN (fun i => neg1 (P.x (P.nx i) - P.x i) + neg1 (P.y (P.nx i) - P.y i)) P.n := by
  unfold negA
  refine sumN_congr fun i hi => ?_
  rw [goN_fw h0, Nat.zero_add, Nat.mod_eq_of_lt hi]; rfl
theorem sumN_rev (g : Nat → Nat) (n : Nat) : sumN (fun i => g (n - 1 - i)) n = sumN g n := by
  have key : ∀ k, k ≤ n → sumN (fun i => g (n - 1 - i)) k + sumN g (n - k) = sumN g n := by
    intro k
    induction k with
    | zero => intro _; simp [sumN]
    | succ k ih =>
      intro hk
      have := ih (by omega)
      obtain ⟨t, ht⟩ : ∃ t, n - k = t + 1 := ⟨n - k - 1, by omega⟩
      rw [ht] at this
      simp only [sumN] at this ⊢
      rw [show n - (k + 1) = t by omega, show n - 1 - k = t by omega]
      omega
  have := key n (Nat.le_refl _)
  rw [Nat.sub_self] at this
  simpa [sumN] using this
theorem negA_bw (P : Bd) (h0 : 0 < P.n) : negA P false = sumN (fun i => neg1 (P.x i - P.x (P.nx i)) + neg1 (P.y i - P.y (P.nx i))) P.n := by
  unfold negA
  rw [← sumN_rev (fun i => neg1 (P.x i - P.x (P.nx i)) + neg1 (P.y i - P.y (P.nx i))) P.n]
  refine sumN_congr fun i hi => ?_
  have e1 : P.goN false 0 (i + 1) = P.n - 1 - i := by
    rw [goN_bw h0 (by omega), show 0 + P.n - (i + 1) = P.n - 1 - i by omega, Nat.mod_eq_of_lt (by omega)]
  have e2 : P.goN false 0 i = P.nx (P.n - 1 - i) := by
    rw [goN_bw h0 (by omega), ← P.nx_mod (i := P.n - 1 - i) (by omega)]
    congr 1; omega
  have e3 : P.go false (P.goN false 0 i) = P.n - 1 - i := e1
  show negs P false (P.goN false 0 i) = _
  unfold negs
  rw [e3, e2]
theorem sum_sg {P : Bd} (hP : P.fit) : ∀ n, n ≤ P.n → (sumTo (fun i => g_sg (P.x (P.nx i) - P.x i) + g_sg (P.y (P.nx i) - P.y i)) n).toInt = (sumN (fun i => neg1 (P.x i - P.x (P.nx i)) + neg1 (P.y i - P.y (P.nx i))) n : Int) - sumN (fun i => neg1 (P.x (P.nx i) - P.x i) + neg1 (P.y (P.nx i) - P.y i)) n := by
  intro n
  induction n with
  | zero => intro _; rfl
  | succ n ih =>
    intro hn
    have ih := ih (by omega)
    have h8 := hP.1
    obtain ⟨a, b, ha, hb, e1, e2⟩ := hP.2 n (by omega)
    obtain ⟨a', b', ha', hb', e3, e4⟩ := hP.2 _ (P.nx_lt (i := n) (by omega))
    have l1 := sumN_le (g := fun i => neg1 (P.x i - P.x (P.nx i)) + neg1 (P.y i - P.y (P.nx i))) (n := n) (c := 2) fun i _ => by
      have h1 := neg1_le (P.x i - P.x (P.nx i)); have h2 := neg1_le (P.y i - P.y (P.nx i)); omega
    have l2 := sumN_le (g := fun i => neg1 (P.x (P.nx i) - P.x i) + neg1 (P.y (P.nx i) - P.y i)) (n := n) (c := 2) fun i _ => by
      have h1 := neg1_le (P.x (P.nx i) - P.x i); have h2 := neg1_le (P.y (P.nx i) - P.y i); omega
    have s1 := sg_neg ha' ha
    have s2 := sg_neg hb' hb
    have b1 := neg1_le (nI a' - nI a); have b2 := neg1_le (nI a - nI a'); have b3 := neg1_le (nI b' - nI b); have b4 := neg1_le (nI b - nI b')
    simp only [sumTo, sumN, e1, e2, e3, e4]
    have t1 : (g_sg (nI a' - nI a) + g_sg (nI b' - nI b)).toInt = (g_sg (nI a' - nI a)).toInt + (g_sg (nI b' - nI b)).toInt := by
      rw [Int32.toInt_add]; exact Int.bmod_eq_of_le (by omega) (by omega)
    rw [Int32.toInt_add, t1, ih, s1, s2]
    rw [Int.bmod_eq_of_le (by omega) (by omega)]
    omega
/-- the shorter way, as the model finds it -/
theorem short_way {P : Bd} (hP : P.fit) (h0 : 0 < P.n) : (sumTo (fun i => g_sg (P.x (P.nx i) - P.x i) + g_sg (P.y (P.nx i) - P.y i)) P.n < 0) = (negA P false < negA P true) := by
  rw [i_lt, sum_sg hP P.n (Nat.le_refl _), negA_fw P h0, negA_bw P h0, eq_iff_iff]
  show _ < (0 : Int) ↔ _
  omega
def bestFw (P : Bd) : Bool := !decide (negA P false < negA P true)
def bestL (P : Bd) : List Int32 := wrL P 0 (bestFw P) P.n
def St.vWrite (S : St) (v : Int32) : Int32 := if S.c.isB v = true then nI (bestL (S.c.vB v)).length else -1
def St.write (S : St) (v : Int32) : St := if S.c.isB v = true then (St.mk S.tl S.tp S.fault S.why S.c S.um S.ud S.fm S.fo ((bestL (S.c.vB v)).length) (fun i => (bestL (S.c.vB v)).getD i 0) S.im) else S
