/-! PURE LAYER 16: loops over a heap; least rows -/
/-- a loop with an invariant; it may end early -/
theorem Ok.loop {σ ρ : Type} {lp : Nat → σ → Option ρ} {Q : ρ → Prop} (Inv : Nat → σ → Prop) (N : Nat)
    (st : ∀ i s, i < N → Inv i s → (∃ r, Q r ∧ ∀ f, lp (f + 1) s = some r) ∨ ∃ s', Inv (i + 1) s' ∧ ∀ f, lp (f + 1) s = lp f s')
    (en : ∀ s, Inv N s → ∃ r, Q r ∧ ∀ f, lp (f + 1) s = some r) {f : Nat} (hf : N < f) {s : σ} (h0 : Inv 0 s) : Ok (lp f s) Q := by
  have key : ∀ k i f s, i + k = N → N < f + i → Inv i s → Ok (lp f s) Q := by
    intro k
    induction k with
    | zero =>
      intro i f s h1 h2 hi
      have : i = N := by omega
      subst this
      obtain ⟨f, rfl⟩ : ∃ g, f = g + 1 := ⟨f - 1, by omega⟩
      obtain ⟨r, q, e⟩ := en s hi
      exact ⟨r, e f, q⟩
    | succ k ih =>
      intro i f s h1 h2 hi
      obtain ⟨f, rfl⟩ : ∃ g, f = g + 1 := ⟨f - 1, by omega⟩
      rcases st i s (by omega) hi with ⟨r, q, e⟩ | ⟨s', h3, e⟩
      · exact ⟨r, e f, q⟩
      · rw [e f]
        exact ih (i + 1) f s' (by omega) (by omega) h3
  exact key N 0 f s (by omega) (by omega) h0
theorem Ok.loop2 {A B ρ : Type} {lp : Nat → A → B → Option ρ} {Q : ρ → Prop} (Inv : Nat → A → B → Prop) (N : Nat)
    (st : ∀ i a b, i < N → Inv i a b → (∃ r, Q r ∧ ∀ f, lp (f + 1) a b = some r) ∨ ∃ a' b', Inv (i + 1) a' b' ∧ ∀ f, lp (f + 1) a b = lp f a' b')
    (en : ∀ a b, Inv N a b → ∃ r, Q r ∧ ∀ f, lp (f + 1) a b = some r) {f : Nat} (hf : N < f) {a : A} {b : B} (h0 : Inv 0 a b) : Ok (lp f a b) Q :=
  Ok.loop (lp := fun f (s : A × B) => lp f s.1 s.2) (fun i s => Inv i s.1 s.2) N (fun i s hi h => by
    rcases st i s.1 s.2 hi h with q | ⟨a', b', q1, q2⟩
    · exact Or.inl q
    · exact Or.inr ⟨(a', b'), q1, q2⟩) (fun s h => en s.1 s.2 h) hf (s := (a, b)) h0
theorem Ok.loop3 {A B C ρ : Type} {lp : Nat → A → B → C → Option ρ} {Q : ρ → Prop} (Inv : Nat → A → B → C → Prop) (N : Nat)
    (st : ∀ i a b c, i < N → Inv i a b c → (∃ r, Q r ∧ ∀ f, lp (f + 1) a b c = some r) ∨ ∃ a' b' c', Inv (i + 1) a' b' c' ∧ ∀ f, lp (f + 1) a b c = lp f a' b' c')
    (en : ∀ a b c, Inv N a b c → ∃ r, Q r ∧ ∀ f, lp (f + 1) a b c = some r) {f : Nat} (hf : N < f) {a : A} {b : B} {c : C} (h0 : Inv 0 a b c) : Ok (lp f a b c) Q :=
  Ok.loop (lp := fun f (s : A × B × C) => lp f s.1 s.2.1 s.2.2) (fun i s => Inv i s.1 s.2.1 s.2.2) N (fun i s hi h => by
    rcases st i s.1 s.2.1 s.2.2 hi h with q | ⟨a', b', c', q1, q2⟩
    · exact Or.inl q
    · exact Or.inr ⟨(a', b', c'), q1, q2⟩) (fun s h => en s.1 s.2.1 s.2.2 h) hf (s := (a, b, c)) h0
theorem Ok.loop4 {A B C D ρ : Type} {lp : Nat → A → B → C → D → Option ρ} {Q : ρ → Prop} (Inv : Nat → A → B → C → D → Prop) (N : Nat)
    (st : ∀ i a b c d, i < N → Inv i a b c d → (∃ r, Q r ∧ ∀ f, lp (f + 1) a b c d = some r) ∨ ∃ a' b' c' d', Inv (i + 1) a' b' c' d' ∧ ∀ f, lp (f + 1) a b c d = lp f a' b' c' d')
    (en : ∀ a b c d, Inv N a b c d → ∃ r, Q r ∧ ∀ f, lp (f + 1) a b c d = some r) {f : Nat} (hf : N < f) {a : A} {b : B} {c : C} {d : D} (h0 : Inv 0 a b c d) : Ok (lp f a b c d) Q :=
  Ok.loop (lp := fun f (s : A × B × C × D) => lp f s.1 s.2.1 s.2.2.1 s.2.2.2) (fun i s => Inv i s.1 s.2.1 s.2.2.1 s.2.2.2) N (fun i s hi h => by
    rcases st i s.1 s.2.1 s.2.2.1 s.2.2.2 hi h with q | ⟨a', b', c', d', q1, q2⟩
    · exact Or.inl q
    · exact Or.inr ⟨(a', b', c', d'), q1, q2⟩) (fun s h => en s.1 s.2.1 s.2.2.1 s.2.2.2 h) hf (s := (a, b, c, d)) h0
/-- a row ahead of another -/
def Lex (a b : Nat → Int32) (N : Nat) : Prop := ∃ k, k < N ∧ (∀ j, j < k → a j = b j) ∧ a k < b k
theorem i_lt_trans {a b c : Int32} (h1 : a < b) (h2 : b < c) : a < c := by rw [i_lt] at *; omega
theorem i_lt_irrefl (a : Int32) : ¬ a < a := by rw [i_lt]; omega
theorem i_tri (a b : Int32) : a < b ∨ a = b ∨ b < a := by
  rw [i_lt, i_lt, i_eq]; omega
theorem Lex.trans {a b c : Nat → Int32} {N : Nat} (h1 : Lex a b N) (h2 : Lex b c N) : Lex a c N := by
  obtain ⟨k, k1, k2, k3⟩ := h1
  obtain ⟨l, l1, l2, l3⟩ := h2
  by_cases q : k < l
  · exact ⟨k, k1, fun j hj => (k2 j hj).trans (l2 j (by omega)), by rw [← l2 k q]; exact k3⟩
  · by_cases q2 : k = l
    · subst q2
      exact ⟨k, k1, fun j hj => (k2 j hj).trans (l2 j hj), i_lt_trans k3 l3⟩
    · exact ⟨l, l1, fun j hj => (k2 j (by omega)).trans (l2 j hj), by rw [k2 l (by omega)]; exact l3⟩
theorem Lex.irrefl {a b : Nat → Int32} {N : Nat} (e : ∀ k, k < N → a k = b k) : ¬ Lex a b N := by
  rintro ⟨k, k1, k2, k3⟩
  rw [e k k1] at k3
  exact i_lt_irrefl _ k3
theorem Lex.tri (a b : Nat → Int32) (N : Nat) : Lex a b N ∨ (∀ k, k < N → a k = b k) ∨ Lex b a N := by
  induction N with
  | zero => exact Or.inr (Or.inl fun k hk => by omega)
  | succ N ih =>
    rcases ih with ⟨k, k1, k2⟩ | h | ⟨k, k1, k2⟩
    · exact Or.inl ⟨k, by omega, k2⟩
    · rcases i_tri (a N) (b N) with q | q | q
      · exact Or.inl ⟨N, by omega, h, q⟩
      · refine Or.inr (Or.inl fun k hk => ?_)
        by_cases e : k = N
        · rw [e]; exact q
        · exact h k (by omega)
      · exact Or.inr (Or.inr ⟨N, by omega, fun j hj => (h j hj).symm, q⟩)
    · exact Or.inr (Or.inr ⟨k, by omega, k2⟩)
theorem Lex.congr {a b a' b' : Nat → Int32} {N : Nat} (ha : ∀ k, k < N → a k = a' k) (hb : ∀ k, k < N → b k = b' k) : Lex a b N → Lex a' b' N := by
  rintro ⟨k, k1, k2, k3⟩
  exact ⟨k, k1, fun j hj => by rw [← ha j (by omega), ← hb j (by omega)]; exact k2 j hj, by rw [← ha k k1, ← hb k k1]; exact k3⟩
/-- the least of some rows -/
def Least (C : (Nat → Int32) → Prop) (N : Nat) (l : Nat → Int32) : Prop := (∃ r, C r ∧ ∀ k, k < N → l k = r k) ∧ ∀ r, C r → ¬ Lex r l N
theorem Least.eq {C D : (Nat → Int32) → Prop} {N : Nat} {l m : Nat → Int32} (h1 : Least C N l) (h2 : Least D N m) (cd : ∀ r, C r → ∃ s, D s ∧ ∀ k, k < N → r k = s k) (dc : ∀ r, D r → ∃ s, C s ∧ ∀ k, k < N → r k = s k) : ∀ k, k < N → l k = m k := by
  obtain ⟨⟨r, r1, r2⟩, h1⟩ := h1
  obtain ⟨⟨s, s1, s2⟩, h2⟩ := h2
  obtain ⟨r', q1, q2⟩ := cd r r1
  obtain ⟨s', p1, p2⟩ := dc s s1
  rcases Lex.tri l m N with q | q | q
  · exact absurd (q.congr (fun k hk => (r2 k hk).trans (q2 k hk)) (fun _ _ => rfl)) (h2 r' q1)
  · exact q
  · exact absurd (q.congr (fun k hk => (s2 k hk).trans (p2 k hk)) (fun _ _ => rfl)) (h1 s' p1)
theorem Least.one {C : (Nat → Int32) → Prop} {N : Nat} {l r : Nat → Int32} (hC : ∀ s, C s → s = r) (hr : C r) (hl : ∀ k, k < N → l k = r k) : Least C N l :=
  ⟨⟨r, hr, hl⟩, fun s hs => by rw [hC s hs]; exact Lex.irrefl fun k hk => (hl k hk).symm⟩
theorem Least.better {C D : (Nat → Int32) → Prop} {N : Nat} {l l' r : Nat → Int32} (h : Least C N l) (hD : ∀ s, D s ↔ C s ∨ s = r) (hr : Lex r l N) (hl : ∀ k, k < N → l' k = r k) : Least D N l' := by
  refine ⟨⟨r, (hD r).mpr (Or.inr rfl), hl⟩, fun s hs => ?_⟩
  rcases (hD s).mp hs with q | q
  · intro z
    exact h.2 s q ((z.congr (fun _ _ => rfl) hl).trans hr)
  · rw [q]; exact Lex.irrefl fun k hk => (hl k hk).symm
theorem Least.stay {C D : (Nat → Int32) → Prop} {N : Nat} {l l' r : Nat → Int32} (h : Least C N l) (hD : ∀ s, D s ↔ C s ∨ s = r) (hr : ¬ Lex r l N) (hl : ∀ k, k < N → l' k = l k) : Least D N l' := by
  obtain ⟨⟨r0, c1, c2⟩, h2⟩ := h
  refine ⟨⟨r0, (hD r0).mpr (Or.inl c1), fun k hk => (hl k hk).trans (c2 k hk)⟩, fun s hs z => ?_⟩
  have z := z.congr (fun _ _ => rfl) hl
  rcases (hD s).mp hs with q | q
  · exact h2 s q z
  · rw [q] at z; exact hr z
/-- the first place where two rows differ -/
theorem lex_fst (a b : Nat → Int32) (N : Nat) : (∃ k, k < N ∧ (∀ j, j < k → a j = b j) ∧ a k ≠ b k) ∨ ∀ k, k < N → a k = b k := by
  rcases Lex.tri a b N with ⟨k, k1, k2, k3⟩ | h | ⟨k, k1, k2, k3⟩
  · exact Or.inl ⟨k, k1, k2, fun e => by rw [e] at k3; exact i_lt_irrefl _ k3⟩
  · exact Or.inr h
  · exact Or.inl ⟨k, k1, fun j hj => (k2 j hj).symm, fun e => by rw [e] at k3; exact i_lt_irrefl _ k3⟩
/-- compared by the component -/
theorem f_isLess {F N : Nat} {h : e_H} {p q : Nat} {a b : Nat → Int32} (hF : N < F) (hN : N ≤ 100) (hp : ∀ k, k < N → e_aI h p 0 (nI k) = some (a k)) (hq : ∀ k, k < N → e_aI h q 0 (nI k) = some (b k)) : ∃ v, f_X1_isLess F h p q (nI N) = some v ∧ (v = 0 ∨ v = 1) ∧ (v = 0 ↔ ¬ Lex a b N) := by
  have hl : lp_X1_isLess_2 F h p q (nI N) F 0 = some ((fstTo (fun k => if a k = b k then none else some (.error (if b k ≤ a k then 0 else 1))) N).getD (.ok ())) := by
    refine lp_run (lp := lp_X1_isLess_2 F h p q (nI N)) nI _ N _ (fun i hi f => ?_) (fun f => ?_) hF
    · have hle : (nI N ≤ nI i) = False := by rw [p_le (by omega) (by omega)]; simp; omega
      simp only [lp_X1_isLess_2, hle, hp i hi, hq i hi, Option.bind_some, if_false, ← nI_succ]
      by_cases e : a i = b i
      · simp [e]
      · simp only [e, if_false]
        split <;> rfl
    · simp only [lp_X1_isLess_2, Int32.le_refl, if_true]
  simp only [f_X1_isLess, hl]
  rcases lex_fst a b N with ⟨k, k1, k2, k3⟩ | h
  · rw [fstTo_at (v := .error (if b k ≤ a k then 0 else 1)) k1 (by simp [k3]) (fun j hj => by simp [k2 j hj])]
    simp only [Option.getD_some, bE_e]
    by_cases e : b k ≤ a k
    · refine ⟨0, by simp [e], Or.inl rfl, ⟨fun _ => ?_, fun _ => rfl⟩⟩
      have : Lex b a N := ⟨k, k1, fun j hj => (k2 j hj).symm, by
        rcases i_tri (a k) (b k) with z | z | z
        · rw [i_le] at e; rw [i_lt] at z; omega
        · exact absurd z k3
        · exact z⟩
      intro z
      exact Lex.irrefl (fun _ _ => rfl) (z.trans this)
    · refine ⟨1, by simp [e], Or.inr rfl, ⟨fun z => (by cases z), fun z => absurd ⟨k, k1, k2, ?_⟩ z⟩⟩
      rw [i_not_le] at e; exact e
  · rw [fstTo_none.mpr (fun i hi => by simp [h i hi])]
    exact ⟨0, rfl, Or.inl rfl, ⟨fun _ => Lex.irrefl h, fun _ => rfl⟩⟩
/-- small differences -/
theorem i_sub_small {x y : Int32} (hx : ∃ a : Nat, a < 1000 ∧ x = nI a) (hy : ∃ a : Nat, a < 1000 ∧ y = nI a) : (x - y < 0 ↔ x < y) ∧ (x - y = 0 ↔ x = y) := by
  obtain ⟨a, ha, rfl⟩ := hx
  obtain ⟨b, hb, rfl⟩ := hy
  simp only [iI_nI, iI_sub]
  rw [show (0 : Int32) = iI 0 from rfl, iI_lt (by omega) (by omega) (by omega) (by omega), iI_lt (by omega) (by omega) (by omega) (by omega), iI_eq (by omega) (by omega) (by omega) (by omega), iI_eq (by omega) (by omega) (by omega) (by omega)]
  omega
/-- compared by the model -/
theorem f_compare {F N : Nat} {h : e_H} {p q : Nat} {a b : Nat → Int32} (hF : N < F) (hN : N ≤ 100) (hp : ∀ k, k < N → e_aI h p 0 (nI k) = some (a k)) (hq : ∀ k, k < N → e_aI h q 0 (nI k) = some (b k))
    (sa : ∀ k, k < N → ∃ n : Nat, n < 1000 ∧ a k = nI n) (sb : ∀ k, k < N → ∃ n : Nat, n < 1000 ∧ b k = nI n) : ∃ v, f_X10_compare F h p q (nI N) = some v ∧ (v < 0 ↔ Lex a b N) ∧ (v = 0 ↔ ∀ k, k < N → a k = b k) := by
  have hl : lp_X10_compare_2 F h p q (nI N) F 0 = some ((fstTo (fun k => if a k = b k then none else some (.error (a k - b k))) N).getD (.ok ())) := by
    refine lp_run (lp := lp_X10_compare_2 F h p q (nI N)) nI _ N _ (fun i hi f => ?_) (fun f => ?_) hF
    · have hle : (nI N ≤ nI i) = False := by rw [p_le (by omega) (by omega)]; simp; omega
      simp only [lp_X10_compare_2, hle, hp i hi, hq i hi, Option.bind_some, if_false, ← nI_succ]
      by_cases e : a i = b i <;> simp [e]
    · simp only [lp_X10_compare_2, Int32.le_refl, if_true]
  simp only [f_X10_compare, hl]
  rcases lex_fst a b N with ⟨k, k1, k2, k3⟩ | h
  · rw [fstTo_at (v := .error (a k - b k)) k1 (by simp [k3]) (fun j hj => by simp [k2 j hj])]
    obtain ⟨s1, s2⟩ := i_sub_small (sa k k1) (sb k k1)
    refine ⟨a k - b k, rfl, ?_, ?_⟩
    · rw [s1]
      constructor
      · intro z; exact ⟨k, k1, k2, z⟩
      · rintro ⟨l, l1, l2, l3⟩
        by_cases q : l < k
        · rw [k2 l q] at l3; exact absurd l3 (i_lt_irrefl _)
        · by_cases q2 : l = k
          · rw [← q2]; exact l3
          · exact absurd (l2 k (by omega)) k3
    · rw [s2]
      exact ⟨fun z => absurd z k3, fun z => absurd (z k k1) k3⟩
  · rw [fstTo_none.mpr (fun i hi => by simp [h i hi])]
    refine ⟨0, rfl, ⟨fun z => absurd z (i_lt_irrefl _), fun z => absurd z (Lex.irrefl h)⟩, ⟨fun _ => h, fun _ => rfl⟩⟩
/-- a loop, each round handing on to the next -/
theorem Ok.loopC {σ ρ : Type} {lp : Nat → σ → Option ρ} {Q : ρ → Prop} (Inv : Nat → σ → Prop) (N : Nat)
    (st : ∀ i s f, i < N → Inv i s → (∀ s', Inv (i + 1) s' → Ok (lp f s') Q) → Ok (lp (f + 1) s) Q)
    (en : ∀ s f, Inv N s → Ok (lp (f + 1) s) Q) {f : Nat} (hf : N < f) {s : σ} (h0 : Inv 0 s) : Ok (lp f s) Q := by
  have key : ∀ k i f s, i + k = N → N < f + i → Inv i s → Ok (lp f s) Q := by
    intro k
    induction k with
    | zero =>
      intro i f s h1 h2 hi
      have : i = N := by omega
      subst this
      obtain ⟨f, rfl⟩ : ∃ g, f = g + 1 := ⟨f - 1, by omega⟩
      exact en s f hi
    | succ k ih =>
      intro i f s h1 h2 hi
      obtain ⟨f, rfl⟩ : ∃ g, f = g + 1 := ⟨f - 1, by omega⟩
      exact st i s f (by omega) hi fun s' h3 => ih (i + 1) f s' (by omega) (by omega) h3
  exact key N 0 f s (by omega) (by omega) h0
theorem Ok.loopC2 {A B ρ : Type} {lp : Nat → A → B → Option ρ} {Q : ρ → Prop} (Inv : Nat → A → B → Prop) (N : Nat)
    (st : ∀ i a b f, i < N → Inv i a b → (∀ a' b', Inv (i + 1) a' b' → Ok (lp f a' b') Q) → Ok (lp (f + 1) a b) Q)
    (en : ∀ a b f, Inv N a b → Ok (lp (f + 1) a b) Q) {f : Nat} (hf : N < f) {a : A} {b : B} (h0 : Inv 0 a b) : Ok (lp f a b) Q :=
  Ok.loopC (lp := fun f (s : A × B) => lp f s.1 s.2) (fun i s => Inv i s.1 s.2) N (fun i s f hi h k => st i s.1 s.2 f hi h fun a' b' q => k (a', b') q) (fun s f h => en s.1 s.2 f h) hf (s := (a, b)) h0
theorem Ok.loopC3 {A B C ρ : Type} {lp : Nat → A → B → C → Option ρ} {Q : ρ → Prop} (Inv : Nat → A → B → C → Prop) (N : Nat)
    (st : ∀ i a b c f, i < N → Inv i a b c → (∀ a' b' c', Inv (i + 1) a' b' c' → Ok (lp f a' b' c') Q) → Ok (lp (f + 1) a b c) Q)
    (en : ∀ a b c f, Inv N a b c → Ok (lp (f + 1) a b c) Q) {f : Nat} (hf : N < f) {a : A} {b : B} {c : C} (h0 : Inv 0 a b c) : Ok (lp f a b c) Q :=
  Ok.loopC (lp := fun f (s : A × B × C) => lp f s.1 s.2.1 s.2.2) (fun i s => Inv i s.1 s.2.1 s.2.2) N (fun i s f hi h k => st i s.1 s.2.1 s.2.2 f hi h fun a' b' c' q => k (a', b', c') q) (fun s f h => en s.1 s.2.1 s.2.2 f h) hf (s := (a, b, c)) h0
theorem Ok.loopC4 {A B C D ρ : Type} {lp : Nat → A → B → C → D → Option ρ} {Q : ρ → Prop} (Inv : Nat → A → B → C → D → Prop) (N : Nat)
    (st : ∀ i a b c d f, i < N → Inv i a b c d → (∀ a' b' c' d', Inv (i + 1) a' b' c' d' → Ok (lp f a' b' c' d') Q) → Ok (lp (f + 1) a b c d) Q)
    (en : ∀ a b c d f, Inv N a b c d → Ok (lp (f + 1) a b c d) Q) {f : Nat} (hf : N < f) {a : A} {b : B} {c : C} {d : D} (h0 : Inv 0 a b c d) : Ok (lp f a b c d) Q :=
  Ok.loopC (lp := fun f (s : A × B × C × D) => lp f s.1 s.2.1 s.2.2.1 s.2.2.2) (fun i s => Inv i s.1 s.2.1 s.2.2.1 s.2.2.2) N (fun i s f hi h k => st i s.1 s.2.1 s.2.2.1 s.2.2.2 f hi h fun a' b' c' d' q => k (a', b', c', d') q) (fun s f h => en s.1 s.2.1 s.2.2.1 s.2.2.2 f h) hf (s := (a, b, c, d)) h0
