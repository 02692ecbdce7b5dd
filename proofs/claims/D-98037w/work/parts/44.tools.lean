/-! PURE LAYER 5: loops -/
def sumTo (f : Nat → Int32) : Nat → Int32
  | 0 => 0
  | n + 1 => sumTo f n + f n
def anyTo (p : Nat → Bool) : Nat → Bool
  | 0 => false
  | n + 1 => anyTo p n || p n
/-- what comes of the first place that ends it -/
def fstTo {ρ : Type} (e : Nat → Option ρ) : Nat → Option ρ
  | 0 => none
  | n + 1 => (fstTo e n).orElse fun _ => e n
theorem sumTo_congr {f g : Nat → Int32} {n : Nat} (h : ∀ i, i < n → f i = g i) : sumTo f n = sumTo g n := by
  induction n with
  | zero => rfl
  | succ n ih => simp only [sumTo]; rw [ih fun i hi => h i (by omega), h n (by omega)]
theorem anyTo_congr {f g : Nat → Bool} {n : Nat} (h : ∀ i, i < n → f i = g i) : anyTo f n = anyTo g n := by
  induction n with
  | zero => rfl
  | succ n ih => simp only [anyTo]; rw [ih fun i hi => h i (by omega), h n (by omega)]
theorem fstTo_congr {ρ : Type} {f g : Nat → Option ρ} {n : Nat} (h : ∀ i, i < n → f i = g i) : fstTo f n = fstTo g n := by
  induction n with
  | zero => rfl
  | succ n ih => simp only [fstTo]; rw [ih fun i hi => h i (by omega), h n (by omega)]
theorem anyTo_iff {p : Nat → Bool} {n : Nat} : anyTo p n = true ↔ ∃ i, i < n ∧ p i = true := by
  induction n with
  | zero => simp [anyTo]
  | succ n ih =>
    simp only [anyTo, Bool.or_eq_true, ih]
    constructor
    · rintro (⟨i, hi, h⟩ | h)
      · exact ⟨i, by omega, h⟩
      · exact ⟨n, by omega, h⟩
    · rintro ⟨i, hi, h⟩
      by_cases e : i = n
      · subst e; exact Or.inr h
      · exact Or.inl ⟨i, by omega, h⟩
theorem anyTo_false {p : Nat → Bool} {n : Nat} : anyTo p n = false ↔ ∀ i, i < n → p i = false := by
  rw [← Bool.not_eq_true, anyTo_iff]
  constructor
  · intro h i hi
    cases hp : p i
    · rfl
    · exact absurd ⟨i, hi, hp⟩ h
  · rintro h ⟨i, hi, hp⟩
    rw [h i hi] at hp; cases hp
theorem fstTo_if {ρ : Type} {p : Nat → Bool} {c : ρ} {n : Nat} : fstTo (fun i => if p i = true then some c else none) n = if anyTo p n = true then some c else none := by
  induction n with
  | zero => rfl
  | succ n ih =>
    simp only [fstTo, ih, anyTo]
    by_cases h : anyTo p n = true <;> simp [h]
theorem fstTo_none {ρ : Type} {e : Nat → Option ρ} {n : Nat} : fstTo e n = none ↔ ∀ i, i < n → e i = none := by
  induction n with
  | zero => simp [fstTo]
  | succ n ih =>
    constructor
    · intro h i hi
      simp only [fstTo] at h
      cases hf : fstTo e n with
      | some v => rw [hf] at h; cases h
      | none =>
        rw [hf] at h
        by_cases q : i = n
        · subst q; exact h
        · exact ih.mp hf i (by omega)
    · intro h
      simp only [fstTo]
      rw [ih.mpr fun i hi => h i (by omega)]
      exact h n (by omega)
theorem fstTo_some {ρ : Type} {e : Nat → Option ρ} {n : Nat} {v : ρ} (h : fstTo e n = some v) : ∃ i, i < n ∧ e i = some v ∧ ∀ j, j < i → e j = none := by
  induction n with
  | zero => cases h
  | succ n ih =>
    simp only [fstTo] at h
    cases hf : fstTo e n with
    | some w =>
      rw [hf] at h
      obtain ⟨i, hi, h1, h2⟩ := ih (by rw [hf]; exact h)
      exact ⟨i, by omega, h1, h2⟩
    | none =>
      rw [hf] at h
      exact ⟨n, by omega, h, fun j hj => fstTo_none.mp hf j hj⟩
theorem fstTo_at {ρ : Type} {e : Nat → Option ρ} {n i : Nat} {v : ρ} (hi : i < n) (h : e i = some v) (hj : ∀ j, j < i → e j = none) : fstTo e n = some v := by
  cases hf : fstTo e n with
  | none => rw [fstTo_none.mp hf i hi] at h; cases h
  | some w =>
    obtain ⟨k, hk, h1, h2⟩ := fstTo_some hf
    by_cases q : k = i
    · subst q; rw [← h1, h]
    · by_cases q2 : k < i
      · rw [hj k q2] at h1; cases h1
      · rw [h2 i (by omega)] at h; cases h
/-- a loop that goes through places 0 .. N - 1; e: where it ends early; d: what it ends with -/
theorem lp_run {A ρ : Type} {lp : Nat → A → Option ρ} (s : Nat → A) (e : Nat → Option ρ) (N : Nat) (d : ρ)
    (st : ∀ i, i < N → ∀ f, lp (f + 1) (s i) = match e i with | some r => some r | none => lp f (s (i + 1)))
    (en : ∀ f, lp (f + 1) (s N) = some d) {f : Nat} (hf : N < f) : lp f (s 0) = some ((fstTo e N).getD d) := by
  have key : ∀ k i f, i + k = N → N < f + i → lp f (s i) = some (((fstTo (fun j => e (i + j)) k)).getD d) := by
    intro k
    induction k with
    | zero =>
      intro i f h1 h2
      have : i = N := by omega
      subst this
      obtain ⟨f, rfl⟩ : ∃ g, f = g + 1 := ⟨f - 1, by omega⟩
      rw [en]; rfl
    | succ k ih =>
      intro i f h1 h2
      obtain ⟨f, rfl⟩ : ∃ g, f = g + 1 := ⟨f - 1, by omega⟩
      rw [st i (by omega)]
      have hs : fstTo (fun j => e (i + j)) (k + 1) = match e i with | some r => some r | none => fstTo (fun j => e (i + 1 + j)) k := by
        clear ih h1 h2
        induction k with
        | zero => simp only [fstTo, Nat.add_zero]; cases e i <;> rfl
        | succ k ihk =>
          rw [fstTo, ihk]
          cases e i with
          | some r => rfl
          | none => simp only [fstTo]; rw [show i + (k + 1) = i + 1 + k by omega]
      rw [hs]
      cases h : e i with
      | some r => rfl
      | none => exact ih (i + 1) f (by omega) (by omega)
  have := key N 0 f (by omega) (by omega)
  simpa using this
theorem lp_run2 {A B ρ : Type} {lp : Nat → A → B → Option ρ} (s : Nat → A) (t : Nat → B) (e : Nat → Option ρ) (N : Nat) (d : ρ)
    (st : ∀ i, i < N → ∀ f, lp (f + 1) (s i) (t i) = match e i with | some r => some r | none => lp f (s (i + 1)) (t (i + 1)))
    (en : ∀ f, lp (f + 1) (s N) (t N) = some d) {f : Nat} (hf : N < f) : lp f (s 0) (t 0) = some ((fstTo e N).getD d) :=
  lp_run (lp := fun f (q : A × B) => lp f q.1 q.2) (fun i => (s i, t i)) e N d st en hf
theorem lp_run3 {A B C ρ : Type} {lp : Nat → A → B → C → Option ρ} (s : Nat → A) (t : Nat → B) (u : Nat → C) (e : Nat → Option ρ) (N : Nat) (d : ρ)
    (st : ∀ i, i < N → ∀ f, lp (f + 1) (s i) (t i) (u i) = match e i with | some r => some r | none => lp f (s (i + 1)) (t (i + 1)) (u (i + 1)))
    (en : ∀ f, lp (f + 1) (s N) (t N) (u N) = some d) {f : Nat} (hf : N < f) : lp f (s 0) (t 0) (u 0) = some ((fstTo e N).getD d) :=
  lp_run (lp := fun f (q : A × B × C) => lp f q.1 q.2.1 q.2.2) (fun i => (s i, t i, u i)) e N d st en hf
theorem fstTo_nil {ρ : Type} (n : Nat) : fstTo (fun _ => (none : Option ρ)) n = none := fstTo_none.mpr fun _ _ => rfl
/-- no early end -/
theorem lp_all {A ρ : Type} {lp : Nat → A → Option ρ} (s : Nat → A) (N : Nat) (d : ρ)
    (st : ∀ i, i < N → ∀ f, lp (f + 1) (s i) = lp f (s (i + 1)))
    (en : ∀ f, lp (f + 1) (s N) = some d) {f : Nat} (hf : N < f) : lp f (s 0) = some d := by
  rw [lp_run s (fun _ => none) N d st en hf, fstTo_nil]; rfl
theorem lp_all2 {A B ρ : Type} {lp : Nat → A → B → Option ρ} (s : Nat → A) (t : Nat → B) (N : Nat) (d : ρ)
    (st : ∀ i, i < N → ∀ f, lp (f + 1) (s i) (t i) = lp f (s (i + 1)) (t (i + 1)))
    (en : ∀ f, lp (f + 1) (s N) (t N) = some d) {f : Nat} (hf : N < f) : lp f (s 0) (t 0) = some d :=
  lp_all (lp := fun f (q : A × B) => lp f q.1 q.2) (fun i => (s i, t i)) N d st en hf
theorem lp_all3 {A B C ρ : Type} {lp : Nat → A → B → C → Option ρ} (s : Nat → A) (t : Nat → B) (u : Nat → C) (N : Nat) (d : ρ)
    (st : ∀ i, i < N → ∀ f, lp (f + 1) (s i) (t i) (u i) = lp f (s (i + 1)) (t (i + 1)) (u (i + 1)))
    (en : ∀ f, lp (f + 1) (s N) (t N) (u N) = some d) {f : Nat} (hf : N < f) : lp f (s 0) (t 0) (u 0) = some d :=
  lp_all (lp := fun f (q : A × B × C) => lp f q.1 q.2.1 q.2.2) (fun i => (s i, t i, u i)) N d st en hf
/-- an early end of one kind -/
theorem lp_any {A ρ : Type} {lp : Nat → A → Option ρ} (s : Nat → A) (p : Nat → Bool) (N : Nat) (c d : ρ)
    (st : ∀ i, i < N → ∀ f, lp (f + 1) (s i) = if p i = true then some c else lp f (s (i + 1)))
    (en : ∀ f, lp (f + 1) (s N) = some d) {f : Nat} (hf : N < f) : lp f (s 0) = some (if anyTo p N = true then c else d) := by
  rw [lp_run s (fun i => if p i = true then some c else none) N d (fun i hi f => by rw [st i hi f]; by_cases h : p i = true <;> simp [h]) en hf, fstTo_if]
  by_cases h : anyTo p N = true <;> simp [h]
/-! what binds do to a value that is there -/
section
variable {α β γ ρ σ : Type}
theorem bE_e (r : ρ) (g : σ → Option ρ) : e_bE (some (.error r)) g = some r := rfl
theorem bE_o (s : σ) (g : σ → Option ρ) : e_bE (some (.ok s)) g = g s := rfl
theorem b2_s (v : α) (w : β) (Y : α → β → Option γ) : e_b2 (some (v, w)) Y = Y v w := rfl
theorem b3_o (v : α) (h : e_H) (Z : Nat × Nat → e_H → Option γ) (Y : α → e_H → Option γ) : e_b3 (some (.ok v, h)) Z Y = Y v h := rfl
theorem b3_e (x : Nat × Nat) (h : e_H) (Z : Nat × Nat → e_H → Option γ) (Y : α → e_H → Option γ) : e_b3 (some (.error x, h)) Z Y = Z x h := rfl
theorem u2_s (Y : α → β → γ) (a : α) (b : β) : e_u2 Y (a, b) = Y a b := rfl
theorem b_ite {c : Prop} [Decidable c] (X Y : Option α) (g : α → Option β) : Option.bind (if c then X else Y) g = if c then Option.bind X g else Option.bind Y g := by split <;> rfl
theorem bE_ite {c : Prop} [Decidable c] (X Y : Option (Except ρ σ)) (g : σ → Option ρ) : e_bE (if c then X else Y) g = if c then e_bE X g else e_bE Y g := by split <;> rfl
end
theorem nI_zero : (0 : Int32) = nI 0 := rfl
theorem b2i_ne {b : Bool} : ¬ b2i b = 0 ↔ b = true := by cases b <;> decide
theorem i_zsub (a : Int32) : 0 - a = -a := Int32.zero_sub a
theorem b2i_d {c : Prop} [Decidable c] : (if c then (1 : Int32) else 0) = b2i (decide c) := by by_cases h : c <;> simp [h, b2i]
theorem b2i_nd {c : Prop} [Decidable c] : (if c then (0 : Int32) else 1) = b2i (!decide c) := by by_cases h : c <;> simp [h, b2i]
theorem p_e0 {k : Nat} (h : k < 2 ^ 31) : nI k = 0 ↔ k = 0 := by rw [nI_zero, p_eq h (by decide)]
/-- folds, the function taken out of what is to come -/
theorem lp_sumI {lp : Nat → Int32 → Int32 → Option Int32} {g : Nat → Int32} {N : Nat} (st : ∀ i v f, i < N → lp (f + 1) v (nI i) = lp f (v + g i) (nI (i + 1)))
    (en : ∀ v f, lp (f + 1) v (nI N) = some v) {f : Nat} (hf : N < f) : lp f 0 (nI 0) = some (sumTo g N) :=
  lp_all2 (lp := lp) (fun i => sumTo g i) nI N _ (fun i hi f => st i _ f hi) (fun f => en _ f) hf
theorem lp_sumV {lp : Nat → Int32 → Int32 → Option Int32} {g : Nat → Int32} {N : Nat} (z : Int32) (st : ∀ i v f, i < N → lp (f + 1) v (nI i) = lp f (v + g i) (nI (i + 1)))
    (en : ∀ v f, lp (f + 1) v (nI N) = some v) {f : Nat} (hf : N < f) : lp f z (nI 0) = some (z + sumTo g N) := by
  have := lp_all2 (lp := lp) (fun i => z + sumTo g i) nI N (z + sumTo g N) (fun i hi f => by rw [st i _ f hi]; simp only [sumTo, Int32.add_assoc]) (fun f => en _ f) hf
  simp only [sumTo, Int32.add_zero] at this
  exact this
