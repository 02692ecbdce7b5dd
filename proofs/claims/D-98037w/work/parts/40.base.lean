/-! PURE LAYER 1: reading and writing where a cell's kind is known -/
theorem p_fI {h : e_H} {a c : Nat} (hk : e_k h a = some (.inl c)) (k : Nat) : e_fI h a c k = some (e_I h a k) := by unfold e_fI; rw [if_pos hk]
theorem p_fJ {h : e_H} {a c : Nat} (hk : e_k h a = some (.inl c)) (k : Nat) : e_fJ h a c k = some (e_J h a k) := by unfold e_fJ; rw [if_pos hk]
theorem p_fR {h : e_H} {a c : Nat} (hk : e_k h a = some (.inl c)) (k : Nat) : e_fR h a c k = some (e_R h a k) := by unfold e_fR; rw [if_pos hk]
theorem p_fA {h : e_H} {a c k b : Nat} (hk : e_k h a = some (.inl c)) (hr : e_R h a k = some b) : e_fA h a c k = some b := by unfold e_fA; rw [p_fR hk, hr]; rfl
theorem p_gI {h : e_H} {a c : Nat} (hk : e_k h a = some (.inl c)) (k : Nat) (v : Int32) : e_gI h a c k v = some (e_sI h a k v) := by unfold e_gI; rw [if_pos hk]
theorem p_gJ {h : e_H} {a c : Nat} (hk : e_k h a = some (.inl c)) (k : Nat) (v : Int64) : e_gJ h a c k v = some (e_sJ h a k v) := by unfold e_gJ; rw [if_pos hk]
theorem p_gR {h : e_H} {a c : Nat} (hk : e_k h a = some (.inl c)) (k : Nat) (v : Option Nat) : e_gR h a c k v = some (e_sR h a k v) := by unfold e_gR; rw [if_pos hk]
theorem p_is {h : e_H} {a c : Nat} (hk : e_k h a = some (.inl c)) : e_is h a c = some () := by unfold e_is; rw [if_pos hk]
theorem p_len {h : e_H} {a t n : Nat} (hk : e_k h a = some (.inr (t, n))) : e_len h a t = some n := e_len_eq hk
theorem p_ix {h : e_H} {a t n j : Nat} (hk : e_k h a = some (.inr (t, n))) (hj : j < n) (hn : n < 2 ^ 31) : e_ix h a t (nI j) = some j := e_ix_eq hk rfl hj hn
theorem p_aI {h : e_H} {a t n j : Nat} (hk : e_k h a = some (.inr (t, n))) (hj : j < n) (hn : n < 2 ^ 31) : e_aI h a t (nI j) = some (e_I h a j) := by unfold e_aI; rw [p_ix hk hj hn]; rfl
theorem p_aJ {h : e_H} {a t n j : Nat} (hk : e_k h a = some (.inr (t, n))) (hj : j < n) (hn : n < 2 ^ 31) : e_aJ h a t (nI j) = some (e_J h a j) := by unfold e_aJ; rw [p_ix hk hj hn]; rfl
theorem p_aR {h : e_H} {a t n j : Nat} (hk : e_k h a = some (.inr (t, n))) (hj : j < n) (hn : n < 2 ^ 31) : e_aR h a t (nI j) = some (e_R h a j) := by unfold e_aR; rw [p_ix hk hj hn]; rfl
theorem p_aA {h : e_H} {a t n j b : Nat} (hk : e_k h a = some (.inr (t, n))) (hj : j < n) (hn : n < 2 ^ 31) (hr : e_R h a j = some b) : e_aA h a t (nI j) = some b := by unfold e_aA; rw [p_aR hk hj hn, hr]; rfl
theorem p_wI {h : e_H} {a t n j : Nat} (hk : e_k h a = some (.inr (t, n))) (hj : j < n) (hn : n < 2 ^ 31) (v : Int32) : e_wI h a t (nI j) v = some (e_sI h a j v) := by unfold e_wI; rw [p_ix hk hj hn]; rfl
theorem p_wJ {h : e_H} {a t n j : Nat} (hk : e_k h a = some (.inr (t, n))) (hj : j < n) (hn : n < 2 ^ 31) (v : Int64) : e_wJ h a t (nI j) v = some (e_sJ h a j v) := by unfold e_wJ; rw [p_ix hk hj hn]; rfl
/-! numbers -/
theorem p_lit (k : Nat) : (OfNat.ofNat k : Int32) = nI k := rfl
theorem p_add (a b : Nat) : nI a + nI b = nI (a + b) := (Int32.ofNat_add a b).symm
theorem p_mul (a b : Nat) : nI a * nI b = nI (a * b) := (Int32.ofNat_mul a b).symm
theorem p_sub {a b : Nat} (h : b ≤ a) : nI a - nI b = nI (a - b) := (Int32.ofNat_sub a b h).symm
theorem p_inj {a b : Nat} (ha : a < 2 ^ 31) (hb : b < 2 ^ 31) (e : nI a = nI b) : a = b := by
  have := congrArg Int32.toNatClampNeg e
  rw [nI_clamp ha, nI_clamp hb] at this
  exact this
theorem p_lt {a b : Nat} (ha : a < 2 ^ 31) (hb : b < 2 ^ 31) : nI a < nI b ↔ a < b := by
  rw [Int32.lt_iff_toInt_lt, nI_toInt ha, nI_toInt hb]; omega
theorem p_le {a b : Nat} (ha : a < 2 ^ 31) (hb : b < 2 ^ 31) : nI a ≤ nI b ↔ a ≤ b := by
  rw [Int32.le_iff_toInt_le, nI_toInt ha, nI_toInt hb]; omega
theorem p_eq {a b : Nat} (ha : a < 2 ^ 31) (hb : b < 2 ^ 31) : nI a = nI b ↔ a = b := ⟨p_inj ha hb, fun e => by rw [e]⟩
/-! THE MODEL's SHAPE: m is its object; its arrays lie behind it: field, type, length, in the order in which they are made -/
def m_tab : List (Nat × Nat × Nat) := [(1, 0, 640), (15, 0, 512), (16, 0, 258), (17, 0, 20), (18, 0, 1024), (19, 0, 1928), (20, 3, 8), (21, 3, 8), (22, 3, 64), (23, 3, 20), (24, 3, 16), (25, 3, 40), (26, 2, 2), (28, 0, 16), (29, 0, 16), (30, 0, 16), (31, 0, 16), (32, 0, 16), (35, 0, 200), (38, 0, 100), (39, 0, 100), (40, 0, 100), (41, 0, 46656), (42, 0, 46656), (43, 0, 8), (44, 0, 240), (45, 3, 20)]
def m_sh (h : e_H) (m : Nat) : Prop := e_k h m = some (.inl 8) ∧ ∀ (i : Nat) (q : Nat × Nat × Nat), m_tab[i]? = some q → e_R h m q.1 = some (m + 1 + i) ∧ e_k h (m + 1 + i) = some (.inr (q.2.1, q.2.2))
/-- what a method of the model may change: ints and longs of its own cells -/
def m_st (m : Nat) (h h' : e_H) : Prop := e_k h' = e_k h ∧ e_R h' = e_R h ∧ e_n h' = e_n h ∧ e_u h' = e_u h ∧ ∀ a, (a < m ∨ m + 27 < a) → e_I h' a = e_I h a ∧ e_J h' a = e_J h a
theorem m_st.rf (m : Nat) (h : e_H) : m_st m h h := ⟨rfl, rfl, rfl, rfl, fun _ _ => ⟨rfl, rfl⟩⟩
theorem m_st.tr {m : Nat} {h h1 h2 : e_H} (x : m_st m h h1) (y : m_st m h1 h2) : m_st m h h2 :=
  ⟨y.1.trans x.1, y.2.1.trans x.2.1, y.2.2.1.trans x.2.2.1, y.2.2.2.1.trans x.2.2.2.1, fun a ha => ⟨((y.2.2.2.2 a ha).1).trans (x.2.2.2.2 a ha).1, ((y.2.2.2.2 a ha).2).trans (x.2.2.2.2 a ha).2⟩⟩
theorem m_st.sI {m : Nat} (h : e_H) {a : Nat} (k : Nat) (v : Int32) (ha : m ≤ a ∧ a ≤ m + 27) : m_st m h (e_sI h a k v) :=
  ⟨rfl, rfl, rfl, rfl, fun b hb => ⟨by funext j; rw [e_I_sI, if_neg (by omega)], rfl⟩⟩
theorem m_st.sJ {m : Nat} (h : e_H) {a : Nat} (k : Nat) (v : Int64) (ha : m ≤ a ∧ a ≤ m + 27) : m_st m h (e_sJ h a k v) :=
  ⟨rfl, rfl, rfl, rfl, fun b hb => ⟨rfl, by funext j; rw [e_J_sJ, if_neg (by omega)]⟩⟩
theorem m_sh.st {m : Nat} {h h' : e_H} (s : m_sh h m) (x : m_st m h h') : m_sh h' m := by
  refine ⟨by rw [x.1]; exact s.1, fun i q hq => ?_⟩
  rw [x.1, x.2.1]
  exact s.2 i q hq
