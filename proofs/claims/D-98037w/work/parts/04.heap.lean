/-! the classes whose objects the abstract heap may hold, by number -/
def e_cl : List vw_C := [(RX1, TX1, 37), (RX2, TX2, 8), (RX3, TX3, 7), (RX4, TX4, 5), (RX6, TX6, 10), (RX7, TX7, 9), (RX8, TX8, 4), (RX9, TX9, 11), (RX10, TX10, 51), (RX12, TX12, 1), (RX13, TX13, 3), (RX14, TX14, 2), (RX15, TX15, 2), (RX16, TX16, 2), (RX17, TX17, 8)]
def e_ty : Nat → Nat → FieldType := fun ci => match ci with
  | 0 => tyX1
  | 1 => tyX2
  | 2 => tyX3
  | 3 => tyX4
  | 4 => tyX6
  | 5 => tyX7
  | 6 => tyX8
  | 7 => tyX9
  | 8 => tyX10
  | 9 => tyX12
  | 10 => tyX13
  | 11 => tyX14
  | 12 => tyX15
  | 13 => tyX16
  | _ => tyX17
theorem e_cl_len : e_cl.length = 15 := rfl
def e_ok1 (ci : Nat) (q : vw_C) : Prop := (∀ w ∈ u_ws q.1 q.2.1 q.2.2, w ∈ lw_all) ∧ (∀ k, k < q.2.2 → parseFieldDescriptor (q.2.1 k).2.2.1 = some (e_ty ci k)) ∧ ∀ a, a < q.2.2 → ∀ b, b < q.2.2 → a ≠ b → (q.2.1 a).2.1 ≠ (q.2.1 b).2.1 ∨ ((q.2.1 a).2.2.2 = true ∧ (q.2.1 b).2.2.2 = true ∧ (q.2.1 a).1 ≠ (q.2.1 b).1)
theorem e_ok_0 : e_ok1 0 (RX1, TX1, 37) := ⟨in_X1, tyX1_ok, (by decide +kernel)⟩
theorem e_ok_1 : e_ok1 1 (RX2, TX2, 8) := ⟨in_X2, tyX2_ok, (by decide +kernel)⟩
theorem e_ok_2 : e_ok1 2 (RX3, TX3, 7) := ⟨in_X3, tyX3_ok, (by decide +kernel)⟩
theorem e_ok_3 : e_ok1 3 (RX4, TX4, 5) := ⟨in_X4, tyX4_ok, (by decide +kernel)⟩
theorem e_ok_4 : e_ok1 4 (RX6, TX6, 10) := ⟨in_X6, tyX6_ok, (by decide +kernel)⟩
theorem e_ok_5 : e_ok1 5 (RX7, TX7, 9) := ⟨in_X7, tyX7_ok, (by decide +kernel)⟩
theorem e_ok_6 : e_ok1 6 (RX8, TX8, 4) := ⟨in_X8, tyX8_ok, (by decide +kernel)⟩
theorem e_ok_7 : e_ok1 7 (RX9, TX9, 11) := ⟨in_X9, tyX9_ok, (by decide +kernel)⟩
theorem e_ok_8 : e_ok1 8 (RX10, TX10, 51) := ⟨in_X10, tyX10_ok, (by decide +kernel)⟩
theorem e_ok_9 : e_ok1 9 (RX12, TX12, 1) := ⟨in_X12, tyX12_ok, (by decide +kernel)⟩
theorem e_ok_10 : e_ok1 10 (RX13, TX13, 3) := ⟨in_X13, tyX13_ok, (by decide +kernel)⟩
theorem e_ok_11 : e_ok1 11 (RX14, TX14, 2) := ⟨in_X14, tyX14_ok, (by decide +kernel)⟩
theorem e_ok_12 : e_ok1 12 (RX15, TX15, 2) := ⟨in_X15, tyX15_ok, (by decide +kernel)⟩
theorem e_ok_13 : e_ok1 13 (RX16, TX16, 2) := ⟨in_X16, tyX16_ok, (by decide +kernel)⟩
theorem e_ok_14 : e_ok1 14 (RX17, TX17, 8) := ⟨in_X17, tyX17_ok, (by decide +kernel)⟩
theorem e_cl_ok : ∀ (ci : Nat) (q : vw_C), e_cl[ci]? = some q → e_ok1 ci q := by
  intro ci q h
  match ci, h with
  | 0, h => cases h; exact e_ok_0
  | 1, h => cases h; exact e_ok_1
  | 2, h => cases h; exact e_ok_2
  | 3, h => cases h; exact e_ok_3
  | 4, h => cases h; exact e_ok_4
  | 5, h => cases h; exact e_ok_5
  | 6, h => cases h; exact e_ok_6
  | 7, h => cases h; exact e_ok_7
  | 8, h => cases h; exact e_ok_8
  | 9, h => cases h; exact e_ok_9
  | 10, h => cases h; exact e_ok_10
  | 11, h => cases h; exact e_ok_11
  | 12, h => cases h; exact e_ok_12
  | 13, h => cases h; exact e_ok_13
  | 14, h => cases h; exact e_ok_14
  | n + 15, h => simp [e_cl] at h
/-! ENGINE 1: an abstract typed heap. A kind: an object of class number c, or an array of type number t and length n. -/
abbrev e_K : Type := Nat ⊕ (Nat × Nat)
abbrev e_H : Type := (Nat → Option e_K) × (Nat → Nat → Int32) × (Nat → Nat → Int64) × (Nat → Nat → Option Nat) × Nat × Nat
def e_k (h : e_H) (a : Nat) : Option e_K := h.1 a
def e_I (h : e_H) (a k : Nat) : Int32 := h.2.1 a k
def e_J (h : e_H) (a k : Nat) : Int64 := h.2.2.1 a k
def e_R (h : e_H) (a k : Nat) : Option Nat := h.2.2.2.1 a k
def e_n (h : e_H) : Nat := h.2.2.2.2.1
def e_u (h : e_H) : Nat := h.2.2.2.2.2
def e_sI (h : e_H) (a k : Nat) (v : Int32) : e_H := (h.1, fun b j => if b = a ∧ j = k then v else e_I h b j, h.2.2)
def e_sJ (h : e_H) (a k : Nat) (v : Int64) : e_H := (h.1, h.2.1, fun b j => if b = a ∧ j = k then v else e_J h b j, h.2.2.2)
def e_sR (h : e_H) (a k : Nat) (v : Option Nat) : e_H := (h.1, h.2.1, h.2.2.1, fun b j => if b = a ∧ j = k then v else e_R h b j, h.2.2.2.2)
/-- a new cell of kind d and w slots -/
def e_mk (h : e_H) (d : e_K) (w : Nat) : e_H :=
  (fun b => if b = e_n h then some d else e_k h b, fun b j => if b = e_n h then 0 else e_I h b j, fun b j => if b = e_n h then 0 else e_J h b j, fun b j => if b = e_n h then none else e_R h b j, e_n h + 1, e_u h + w)
/-- a new cell that nothing is known of -/
def e_bump (h : e_H) (w : Nat) : e_H := (fun b => if b = e_n h then none else e_k h b, h.2.1, h.2.2.1, h.2.2.2.1, e_n h + 1, e_u h + w)
/-- n ints (references) of cell s from p on come to cell d from q on -/
def e_cI (h : e_H) (s p d q n : Nat) : e_H := (h.1, fun b j => if b = d ∧ q ≤ j ∧ j < q + n then e_I h s (p + (j - q)) else e_I h b j, h.2.2)
def e_cR (h : e_H) (s p d q n : Nat) : e_H := (h.1, h.2.1, h.2.2.1, fun b j => if b = d ∧ q ≤ j ∧ j < q + n then e_R h s (p + (j - q)) else e_R h b j, h.2.2.2.2)
/-- the length of an array of type number t -/
def e_len (h : e_H) (a t : Nat) : Option Nat := match e_k h a with
  | some (.inr (t', n)) => if t' = t then some n else none
  | _ => none
def e_fI (h : e_H) (a c k : Nat) : Option Int32 := if e_k h a = some (.inl c) then some (e_I h a k) else none
def e_fJ (h : e_H) (a c k : Nat) : Option Int64 := if e_k h a = some (.inl c) then some (e_J h a k) else none
def e_fR (h : e_H) (a c k : Nat) : Option (Option Nat) := if e_k h a = some (.inl c) then some (e_R h a k) else none
def e_gI (h : e_H) (a c k : Nat) (v : Int32) : Option e_H := if e_k h a = some (.inl c) then some (e_sI h a k v) else none
def e_gJ (h : e_H) (a c k : Nat) (v : Int64) : Option e_H := if e_k h a = some (.inl c) then some (e_sJ h a k v) else none
def e_gR (h : e_H) (a c k : Nat) (v : Option Nat) : Option e_H := if e_k h a = some (.inl c) then some (e_sR h a k v) else none
/-- a place in an array -/
def e_ix (h : e_H) (a t : Nat) (i : Int32) : Option Nat := match e_len h a t with
  | some n => if i < 0 ∨ n ≤ i.toNatClampNeg then none else some i.toNatClampNeg
  | none => none
def e_aI (h : e_H) (a t : Nat) (i : Int32) : Option Int32 := (e_ix h a t i).map fun j => e_I h a j
def e_aJ (h : e_H) (a t : Nat) (i : Int32) : Option Int64 := (e_ix h a t i).map fun j => e_J h a j
def e_aR (h : e_H) (a t : Nat) (i : Int32) : Option (Option Nat) := (e_ix h a t i).map fun j => e_R h a j
def e_wI (h : e_H) (a t : Nat) (i v : Int32) : Option e_H := (e_ix h a t i).map fun j => e_sI h a j v
def e_wJ (h : e_H) (a t : Nat) (i : Int32) (v : Int64) : Option e_H := (e_ix h a t i).map fun j => e_sJ h a j v
/-- what an array of references may take: null, or an object of kind d -/
def e_fit (h : e_H) (d : e_K) (v : Option Nat) : Prop := v = none ∨ ∃ b, v = some b ∧ e_k h b = some d
/-- a length for a new array, small -/
def e_nat (i : Int32) : Option Nat := if i < 0 ∨ 100000 < i.toNatClampNeg then none else some i.toNatClampNeg
theorem e_k_sI (h : e_H) (a k v) : e_k (e_sI h a k v) = e_k h := rfl
theorem e_k_sJ (h : e_H) (a k v) : e_k (e_sJ h a k v) = e_k h := rfl
theorem e_k_sR (h : e_H) (a k v) : e_k (e_sR h a k v) = e_k h := rfl
theorem e_I_sI (h : e_H) (a k v b j) : e_I (e_sI h a k v) b j = if b = a ∧ j = k then v else e_I h b j := rfl
theorem e_I_sJ (h : e_H) (a k v) : e_I (e_sJ h a k v) = e_I h := rfl
theorem e_I_sR (h : e_H) (a k v) : e_I (e_sR h a k v) = e_I h := rfl
theorem e_J_sI (h : e_H) (a k v) : e_J (e_sI h a k v) = e_J h := rfl
theorem e_J_sJ (h : e_H) (a k v b j) : e_J (e_sJ h a k v) b j = if b = a ∧ j = k then v else e_J h b j := rfl
theorem e_J_sR (h : e_H) (a k v) : e_J (e_sR h a k v) = e_J h := rfl
theorem e_R_sI (h : e_H) (a k v) : e_R (e_sI h a k v) = e_R h := rfl
theorem e_R_sJ (h : e_H) (a k v) : e_R (e_sJ h a k v) = e_R h := rfl
theorem e_R_sR (h : e_H) (a k v b j) : e_R (e_sR h a k v) b j = if b = a ∧ j = k then v else e_R h b j := rfl
theorem e_n_sI (h : e_H) (a k v) : e_n (e_sI h a k v) = e_n h := rfl
theorem e_n_sJ (h : e_H) (a k v) : e_n (e_sJ h a k v) = e_n h := rfl
theorem e_n_sR (h : e_H) (a k v) : e_n (e_sR h a k v) = e_n h := rfl
theorem e_u_sI (h : e_H) (a k v) : e_u (e_sI h a k v) = e_u h := rfl
theorem e_u_sJ (h : e_H) (a k v) : e_u (e_sJ h a k v) = e_u h := rfl
theorem e_u_sR (h : e_H) (a k v) : e_u (e_sR h a k v) = e_u h := rfl
theorem e_k_mk (h : e_H) (d w b) : e_k (e_mk h d w) b = if b = e_n h then some d else e_k h b := rfl
theorem e_I_mk (h : e_H) (d w b j) : e_I (e_mk h d w) b j = if b = e_n h then 0 else e_I h b j := rfl
theorem e_J_mk (h : e_H) (d w b j) : e_J (e_mk h d w) b j = if b = e_n h then 0 else e_J h b j := rfl
theorem e_R_mk (h : e_H) (d w b j) : e_R (e_mk h d w) b j = if b = e_n h then none else e_R h b j := rfl
theorem e_n_mk (h : e_H) (d w) : e_n (e_mk h d w) = e_n h + 1 := rfl
theorem e_u_mk (h : e_H) (d w) : e_u (e_mk h d w) = e_u h + w := rfl
theorem e_k_bump (h : e_H) (w b) : e_k (e_bump h w) b = if b = e_n h then none else e_k h b := rfl
theorem e_I_bump (h : e_H) (w) : e_I (e_bump h w) = e_I h := rfl
theorem e_J_bump (h : e_H) (w) : e_J (e_bump h w) = e_J h := rfl
theorem e_R_bump (h : e_H) (w) : e_R (e_bump h w) = e_R h := rfl
theorem e_n_bump (h : e_H) (w) : e_n (e_bump h w) = e_n h + 1 := rfl
theorem e_u_bump (h : e_H) (w) : e_u (e_bump h w) = e_u h + w := rfl
theorem e_k_cI (h : e_H) (s p d q n) : e_k (e_cI h s p d q n) = e_k h := rfl
theorem e_k_cR (h : e_H) (s p d q n) : e_k (e_cR h s p d q n) = e_k h := rfl
theorem e_I_cI (h : e_H) (s p d q n b j) : e_I (e_cI h s p d q n) b j = if b = d ∧ q ≤ j ∧ j < q + n then e_I h s (p + (j - q)) else e_I h b j := rfl
theorem e_I_cR (h : e_H) (s p d q n) : e_I (e_cR h s p d q n) = e_I h := rfl
theorem e_J_cI (h : e_H) (s p d q n) : e_J (e_cI h s p d q n) = e_J h := rfl
theorem e_J_cR (h : e_H) (s p d q n) : e_J (e_cR h s p d q n) = e_J h := rfl
theorem e_R_cI (h : e_H) (s p d q n) : e_R (e_cI h s p d q n) = e_R h := rfl
theorem e_R_cR (h : e_H) (s p d q n b j) : e_R (e_cR h s p d q n) b j = if b = d ∧ q ≤ j ∧ j < q + n then e_R h s (p + (j - q)) else e_R h b j := rfl
theorem e_n_cI (h : e_H) (s p d q n) : e_n (e_cI h s p d q n) = e_n h := rfl
theorem e_n_cR (h : e_H) (s p d q n) : e_n (e_cR h s p d q n) = e_n h := rfl
theorem e_u_cI (h : e_H) (s p d q n) : e_u (e_cI h s p d q n) = e_u h := rfl
theorem e_u_cR (h : e_H) (s p d q n) : e_u (e_cR h s p d q n) = e_u h := rfl
theorem e_len_of {h : e_H} {a t n : Nat} (e : e_len h a t = some n) : e_k h a = some (.inr (t, n)) := by
  unfold e_len at e
  split at e
  · rename_i t' n' hk
    split at e
    · rename_i ht
      cases e
      rw [hk, ht]
    · cases e
  · cases e
theorem e_len_eq {h : e_H} {a t n : Nat} (e : e_k h a = some (.inr (t, n))) : e_len h a t = some n := by
  unfold e_len
  rw [e]
  simp
theorem e_ix_of {h : e_H} {a t j : Nat} {i : Int32} (e : e_ix h a t i = some j) : ∃ n, e_k h a = some (.inr (t, n)) ∧ ¬ (i < 0 ∨ n ≤ i.toNatClampNeg) ∧ j = i.toNatClampNeg ∧ j < n := by
  unfold e_ix at e
  split at e
  · rename_i n hn
    split at e
    · cases e
    · rename_i hi
      cases e
      exact ⟨n, e_len_of hn, hi, rfl, Nat.not_le.mp fun q => hi (Or.inr q)⟩
  · cases e
theorem e_ix_eq {h : e_H} {a t n j : Nat} {i : Int32} (e : e_k h a = some (.inr (t, n))) (hi : i = nI j) (hj : j < n) (hn : n < 2 ^ 31) : e_ix h a t i = some j := by
  subst hi
  unfold e_ix
  rw [e_len_eq e]
  have h1 : (nI j).toNatClampNeg = j := nI_clamp (by omega)
  simp only [h1]
  rw [if_neg (fun q => by
    rcases q with q | q
    · exact nI_pos (by omega) q
    · omega)]
theorem e_fI_of {h : e_H} {a c k : Nat} {v : Int32} (e : e_fI h a c k = some v) : e_k h a = some (.inl c) ∧ v = e_I h a k := by
  unfold e_fI at e
  split at e
  · rename_i hk; cases e; exact ⟨hk, rfl⟩
  · cases e
theorem e_fJ_of {h : e_H} {a c k : Nat} {v : Int64} (e : e_fJ h a c k = some v) : e_k h a = some (.inl c) ∧ v = e_J h a k := by
  unfold e_fJ at e
  split at e
  · rename_i hk; cases e; exact ⟨hk, rfl⟩
  · cases e
theorem e_fR_of {h : e_H} {a c k : Nat} {v : Option Nat} (e : e_fR h a c k = some v) : e_k h a = some (.inl c) ∧ v = e_R h a k := by
  unfold e_fR at e
  split at e
  · rename_i hk; cases e; exact ⟨hk, rfl⟩
  · cases e
theorem e_gI_of {h h' : e_H} {a c k : Nat} {v : Int32} (e : e_gI h a c k v = some h') : e_k h a = some (.inl c) ∧ h' = e_sI h a k v := by
  unfold e_gI at e
  split at e
  · rename_i hk; cases e; exact ⟨hk, rfl⟩
  · cases e
theorem e_gJ_of {h h' : e_H} {a c k : Nat} {v : Int64} (e : e_gJ h a c k v = some h') : e_k h a = some (.inl c) ∧ h' = e_sJ h a k v := by
  unfold e_gJ at e
  split at e
  · rename_i hk; cases e; exact ⟨hk, rfl⟩
  · cases e
theorem e_gR_of {h h' : e_H} {a c k : Nat} {v : Option Nat} (e : e_gR h a c k v = some h') : e_k h a = some (.inl c) ∧ h' = e_sR h a k v := by
  unfold e_gR at e
  split at e
  · rename_i hk; cases e; exact ⟨hk, rfl⟩
  · cases e
theorem e_aI_of {h : e_H} {a t : Nat} {i v : Int32} (e : e_aI h a t i = some v) : ∃ n j, e_k h a = some (.inr (t, n)) ∧ ¬ (i < 0 ∨ n ≤ i.toNatClampNeg) ∧ j = i.toNatClampNeg ∧ j < n ∧ v = e_I h a j := by
  unfold e_aI at e
  rw [Option.map_eq_some_iff] at e
  obtain ⟨j, e1, e2⟩ := e
  obtain ⟨n, q1, q2, q3, q4⟩ := e_ix_of e1
  exact ⟨n, j, q1, q2, q3, q4, e2.symm⟩
theorem e_aJ_of {h : e_H} {a t : Nat} {i : Int32} {v : Int64} (e : e_aJ h a t i = some v) : ∃ n j, e_k h a = some (.inr (t, n)) ∧ ¬ (i < 0 ∨ n ≤ i.toNatClampNeg) ∧ j = i.toNatClampNeg ∧ j < n ∧ v = e_J h a j := by
  unfold e_aJ at e
  rw [Option.map_eq_some_iff] at e
  obtain ⟨j, e1, e2⟩ := e
  obtain ⟨n, q1, q2, q3, q4⟩ := e_ix_of e1
  exact ⟨n, j, q1, q2, q3, q4, e2.symm⟩
theorem e_aR_of {h : e_H} {a t : Nat} {i : Int32} {v : Option Nat} (e : e_aR h a t i = some v) : ∃ n j, e_k h a = some (.inr (t, n)) ∧ ¬ (i < 0 ∨ n ≤ i.toNatClampNeg) ∧ j = i.toNatClampNeg ∧ j < n ∧ v = e_R h a j := by
  unfold e_aR at e
  rw [Option.map_eq_some_iff] at e
  obtain ⟨j, e1, e2⟩ := e
  obtain ⟨n, q1, q2, q3, q4⟩ := e_ix_of e1
  exact ⟨n, j, q1, q2, q3, q4, e2.symm⟩
theorem e_wI_of {h h' : e_H} {a t : Nat} {i v : Int32} (e : e_wI h a t i v = some h') : ∃ n j, e_k h a = some (.inr (t, n)) ∧ ¬ (i < 0 ∨ n ≤ i.toNatClampNeg) ∧ j = i.toNatClampNeg ∧ j < n ∧ h' = e_sI h a j v := by
  unfold e_wI at e
  rw [Option.map_eq_some_iff] at e
  obtain ⟨j, e1, e2⟩ := e
  obtain ⟨n, q1, q2, q3, q4⟩ := e_ix_of e1
  exact ⟨n, j, q1, q2, q3, q4, e2.symm⟩
theorem e_wJ_of {h h' : e_H} {a t : Nat} {i : Int32} {v : Int64} (e : e_wJ h a t i v = some h') : ∃ n j, e_k h a = some (.inr (t, n)) ∧ ¬ (i < 0 ∨ n ≤ i.toNatClampNeg) ∧ j = i.toNatClampNeg ∧ j < n ∧ h' = e_sJ h a j v := by
  unfold e_wJ at e
  rw [Option.map_eq_some_iff] at e
  obtain ⟨j, e1, e2⟩ := e
  obtain ⟨n, q1, q2, q3, q4⟩ := e_ix_of e1
  exact ⟨n, j, q1, q2, q3, q4, e2.symm⟩
/-- the types of arrays, by number -/
def e_T : Nat → FieldType := fun t => match t with
  | 0 => .int
  | 1 => .byte
  | 2 => .boolean
  | 3 => .long
  | 4 => .object "PegBands$Band"
  | 5 => .array (.object "PegBands$Band")
  | 6 => .object "java/lang/String"
  | _ => .object "PegBands$Kept"
/-- what a slot of type ty holds -/
def e_V (h : e_H) (ty : FieldType) (a k : Nat) : Value := match ty with
  | .long => .long (e_J h a k)
  | .object _ => va_rf (e_R h a k)
  | .array _ => va_rf (e_R h a k)
  | _ => .int (e_I h a k)
/-- numbers of classes and slots; array classes by type number; String constants and their bytes -/
abbrev e_D : Type := va_G × (Nat → ClassId) × (Nat → Nat) × (Nat → Nat)
def e_At (D : e_D) (h : e_H) (H : Heap) (a : Nat) : Prop := match e_k h a with
  | none => True
  | some (.inl c) => ∃ q : vw_C, e_cl[c]? = some q ∧ t_OB a (D.1.1 c) q.2.2 (D.1.2 c) H (fun k => e_V h (e_ty c k) a k)
  | some (.inr (t, n)) => t < 8 ∧ H[a]? = some (arrV (D.2.1 t) n (fun j => e_V h (e_T t) a j))
def e_Rel (D : e_D) (B : Heap) (h : e_H) (H : Heap) : Prop :=
  H.size = e_n h ∧ B.size ≤ e_n h ∧ (∀ q : Nat, q < B.size → H[q]? = B[q]?) ∧ (∀ a, e_k h a ≠ none → B.size ≤ a ∧ a < e_n h) ∧ ∀ a, e_At D h H a
theorem e_At.ob {D : e_D} {h : e_H} {H : Heap} {a c : Nat} (hA : e_At D h H a) (hk : e_k h a = some (.inl c)) : ∃ q : vw_C, e_cl[c]? = some q ∧ t_OB a (D.1.1 c) q.2.2 (D.1.2 c) H (fun k => e_V h (e_ty c k) a k) := by
  unfold e_At at hA
  rw [hk] at hA
  exact hA
theorem e_At.ar {D : e_D} {h : e_H} {H : Heap} {a t n : Nat} (hA : e_At D h H a) (hk : e_k h a = some (.inr (t, n))) : t < 8 ∧ H[a]? = some (arrV (D.2.1 t) n (fun j => e_V h (e_T t) a j)) := by
  unfold e_At at hA
  rw [hk] at hA
  exact hA
/-- a cell that has not changed, of which the abstract heap says the same -/
theorem e_At.kept {D : e_D} {h h' : e_H} {H H' : Heap} {a : Nat} (hA : e_At D h H a) (hH : H'[a]? = H[a]?) (hk : e_k h' a = e_k h a) (hV : ∀ ty k, e_V h' ty a k = e_V h ty a k) : e_At D h' H' a := by
  unfold e_At at hA ⊢
  rw [hk]
  split
  · trivial
  · rename_i c hc
    rw [hc] at hA
    obtain ⟨q, h1, h2⟩ := hA
    refine ⟨q, h1, ?_⟩
    have := h2.kept hH
    refine t_OB.to this (fun k _ => ?_)
    exact (hV _ _).symm
  · rename_i t n hc
    rw [hc] at hA
    refine ⟨hA.1, ?_⟩
    rw [hH, hA.2]
    congr 1
    congr 1
    funext j
    exact (hV _ _).symm
/-- how much the heap has grown -/
def e_le (h h' : e_H) : Prop := e_n h ≤ e_n h' ∧ e_u h ≤ e_u h'
theorem e_le.rf (h : e_H) : e_le h h := ⟨Nat.le_refl _, Nat.le_refl _⟩
theorem e_le.trans {a b c : e_H} (h1 : e_le a b) (h2 : e_le b c) : e_le a c := ⟨Nat.le_trans h1.1 h2.1, Nat.le_trans h1.2 h2.2⟩
