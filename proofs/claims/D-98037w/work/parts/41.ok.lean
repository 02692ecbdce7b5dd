/-! PURE LAYER 2: what comes out of a program over the heap; one rule a step -/
def Ok {α : Type} (X : Option α) (Q : α → Prop) : Prop := ∃ v, X = some v ∧ Q v
section OK
variable {α β γ ρ σ : Type} {Q : β → Prop}
theorem Ok.ret {v : β} (q : Q v) : Ok (some v) Q := ⟨v, rfl, q⟩
theorem Ok.mono {X : Option β} {R : β → Prop} (x : Ok X R) (k : ∀ v, R v → Q v) : Ok X Q := by
  obtain ⟨v, e, r⟩ := x
  exact ⟨v, e, k v r⟩
theorem Ok.bind {X : Option α} {Y : α → Option β} {R : α → Prop} (x : Ok X R) (y : ∀ v, R v → Ok (Y v) Q) : Ok (Option.bind X Y) Q := by
  obtain ⟨v, e, r⟩ := x
  obtain ⟨w, e2, q⟩ := y v r
  exact ⟨w, by rw [e]; exact e2, q⟩
theorem Ok.eq {X : Option α} {Y : α → Option β} {v : α} (x : X = some v) (y : Ok (Y v) Q) : Ok (Option.bind X Y) Q := by
  rw [x]; exact y
theorem Ok.sm {Y : α → Option β} {v : α} (y : Ok (Y v) Q) : Ok (Option.bind (some v) Y) Q := y
theorem Ok.b2 {X : Option (α × γ)} {Y : α → γ → Option β} {R : α × γ → Prop} (x : Ok X R) (y : ∀ v w, R (v, w) → Ok (Y v w) Q) : Ok (e_b2 X Y) Q := by
  obtain ⟨⟨v, w⟩, e, r⟩ := x
  obtain ⟨z, e2, q⟩ := y v w r
  exact ⟨z, by rw [e]; exact e2, q⟩
theorem Ok.b2e {X : Option (α × γ)} {Y : α → γ → Option β} {v : α} {w : γ} (x : X = some (v, w)) (y : Ok (Y v w) Q) : Ok (e_b2 X Y) Q := by
  rw [x]; exact y
theorem Ok.bE {B : Option (Except β σ)} {g : σ → Option β} {R : Except β σ → Prop} (x : Ok B R) (ye : ∀ r, R (.error r) → Q r) (yo : ∀ s, R (.ok s) → Ok (g s) Q) : Ok (e_bE B g) Q := by
  obtain ⟨v, e, r⟩ := x
  cases v with
  | error z => exact ⟨z, by rw [e]; rfl, ye z r⟩
  | ok s =>
    obtain ⟨w, e2, q⟩ := yo s r
    exact ⟨w, by rw [e]; exact e2, q⟩
theorem Ok.b3 {X : Option (Except (Nat × Nat) α × e_H)} {Z : Nat × Nat → e_H → Option β} {Y : α → e_H → Option β} {R : Except (Nat × Nat) α × e_H → Prop} (x : Ok X R) (yz : ∀ z h, R (.error z, h) → Ok (Z z h) Q) (yo : ∀ v h, R (.ok v, h) → Ok (Y v h) Q) : Ok (e_b3 X Z Y) Q := by
  obtain ⟨⟨v, w⟩, e, r⟩ := x
  cases v with
  | error z =>
    obtain ⟨w2, e2, q⟩ := yz z w r
    exact ⟨w2, by rw [e]; exact e2, q⟩
  | ok s =>
    obtain ⟨w2, e2, q⟩ := yo s w r
    exact ⟨w2, by rw [e]; exact e2, q⟩
theorem Ok.ite {c : Prop} [Decidable c] {A B : Option β} (t : c → Ok A Q) (f : ¬ c → Ok B Q) : Ok (if c then A else B) Q := by
  by_cases hc : c
  · rw [if_pos hc]; exact t hc
  · rw [if_neg hc]; exact f hc
theorem Ok.fI {h : e_H} {a c k : Nat} {Y : Int32 → Option β} (hk : e_k h a = Option.some (.inl c)) (y : Ok (Y (e_I h a k)) Q) : Ok (Option.bind (e_fI h a c k) Y) Q := Ok.eq (p_fI hk k) y
theorem Ok.fJ {h : e_H} {a c k : Nat} {Y : Int64 → Option β} (hk : e_k h a = Option.some (.inl c)) (y : Ok (Y (e_J h a k)) Q) : Ok (Option.bind (e_fJ h a c k) Y) Q := Ok.eq (p_fJ hk k) y
theorem Ok.fR {h : e_H} {a c k : Nat} {Y : Option Nat → Option β} (hk : e_k h a = Option.some (.inl c)) (y : Ok (Y (e_R h a k)) Q) : Ok (Option.bind (e_fR h a c k) Y) Q := Ok.eq (p_fR hk k) y
theorem Ok.fA {h : e_H} {a c k b : Nat} {Y : Nat → Option β} (hk : e_k h a = Option.some (.inl c)) (hr : e_R h a k = Option.some b) (y : Ok (Y b) Q) : Ok (Option.bind (e_fA h a c k) Y) Q := Ok.eq (p_fA hk hr) y
theorem Ok.gI {h : e_H} {a c k : Nat} {v : Int32} {Y : e_H → Option β} (hk : e_k h a = Option.some (.inl c)) (y : Ok (Y (e_sI h a k v)) Q) : Ok (Option.bind (e_gI h a c k v) Y) Q := Ok.eq (p_gI hk k v) y
theorem Ok.gJ {h : e_H} {a c k : Nat} {v : Int64} {Y : e_H → Option β} (hk : e_k h a = Option.some (.inl c)) (y : Ok (Y (e_sJ h a k v)) Q) : Ok (Option.bind (e_gJ h a c k v) Y) Q := Ok.eq (p_gJ hk k v) y
theorem Ok.gR {h : e_H} {a c k : Nat} {v : Option Nat} {Y : e_H → Option β} (hk : e_k h a = Option.some (.inl c)) (y : Ok (Y (e_sR h a k v)) Q) : Ok (Option.bind (e_gR h a c k v) Y) Q := Ok.eq (p_gR hk k v) y
theorem Ok.is {h : e_H} {a c : Nat} {Y : Unit → Option β} (hk : e_k h a = Option.some (.inl c)) (y : Ok (Y ()) Q) : Ok (Option.bind (e_is h a c) Y) Q := Ok.eq (p_is hk) y
theorem Ok.aI {h : e_H} {a t n j : Nat} {i : Int32} {Y : Int32 → Option β} (hk : e_k h a = Option.some (.inr (t, n))) (hi : i = nI j) (hj : j < n) (hn : n < 2 ^ 31) (y : Ok (Y (e_I h a j)) Q) : Ok (Option.bind (e_aI h a t i) Y) Q := by subst hi; exact Ok.eq (p_aI hk hj hn) y
theorem Ok.aJ {h : e_H} {a t n j : Nat} {i : Int32} {Y : Int64 → Option β} (hk : e_k h a = Option.some (.inr (t, n))) (hi : i = nI j) (hj : j < n) (hn : n < 2 ^ 31) (y : Ok (Y (e_J h a j)) Q) : Ok (Option.bind (e_aJ h a t i) Y) Q := by subst hi; exact Ok.eq (p_aJ hk hj hn) y
theorem Ok.wI {h : e_H} {a t n j : Nat} {i v : Int32} {Y : e_H → Option β} (hk : e_k h a = Option.some (.inr (t, n))) (hi : i = nI j) (hj : j < n) (hn : n < 2 ^ 31) (y : Ok (Y (e_sI h a j v)) Q) : Ok (Option.bind (e_wI h a t i v) Y) Q := by subst hi; exact Ok.eq (p_wI hk hj hn v) y
theorem Ok.wJ {h : e_H} {a t n j : Nat} {i : Int32} {v : Int64} {Y : e_H → Option β} (hk : e_k h a = Option.some (.inr (t, n))) (hi : i = nI j) (hj : j < n) (hn : n < 2 ^ 31) (y : Ok (Y (e_sJ h a j v)) Q) : Ok (Option.bind (e_wJ h a t i v) Y) Q := by subst hi; exact Ok.eq (p_wJ hk hj hn v) y
theorem Ok.nat {i : Int32} {n : Nat} {Y : Nat → Option β} (hi : i = nI n) (hn : n ≤ 100000) (y : Ok (Y n) Q) : Ok (Option.bind (e_nat i) Y) Q := by
  subst hi
  refine Ok.eq (v := n) ?_ y
  unfold e_nat
  rw [nI_clamp (by omega), if_neg]
  intro q
  rcases q with q | q
  · exact nI_pos (by omega) q
  · omega
theorem Ok.mkb {h : e_H} {d : e_K} {w : Nat} {Y : Nat → e_H → Option β} (y : Ok (Y (e_n h) (e_mk h d w)) Q) : Ok (e_mkb h d w Y) Q := y
end OK
