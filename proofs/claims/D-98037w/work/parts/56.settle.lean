/-! PURE LAYER 17: the component's forms -/
def tX (w : Nat) (x y : Int32) : Int32 := if w % 8 = 0 then x else if w % 8 = 1 then -y else if w % 8 = 2 then -x else if w % 8 = 3 then y else if w % 8 = 4 then -x else if w % 8 = 5 then - -y else if w % 8 = 6 then - -x else -y
def tY (w : Nat) (x y : Int32) : Int32 := if w % 4 = 0 then y else if w % 4 = 1 then x else if w % 4 = 2 then -y else -x
theorem w8 {w : Nat} (h : w < 8) : w = 0 ∨ w = 1 ∨ w = 2 ∨ w = 3 ∨ w = 4 ∨ w = 5 ∨ w = 6 ∨ w = 7 := by omega
theorem f_tX {w : Nat} (h : w < 8) (x y : Int32) : f_X1_turnedX (nI w) x y = some (tX w x y) := by
  rcases w8 h with rfl | rfl | rfl | rfl | rfl | rfl | rfl | rfl <;> rfl
theorem f_tY {w : Nat} (h : w < 8) (x y : Int32) : f_X1_turnedY (nI w) x y = some (tY w x y) := by
  rcases w8 h with rfl | rfl | rfl | rfl | rfl | rfl | rfl | rfl <;> rfl
/-- the corner at place i of the k-th way round -/
def ixC (n k i : Nat) : Nat := if k < n then (k + i) % n else (2 * n + k - i) % n
def lowX (P : Bd) (w : Nat) : Int32 := minTo 1000000000 (fun i => tX w (P.x i) (P.y i)) P.n
def lowY (P : Bd) (w : Nat) : Int32 := minTo 1000000000 (fun i => tY w (P.x i) (P.y i)) P.n
def rowC (P : Bd) (w k : Nat) (j : Nat) : Int32 :=
  if j % 2 = 0 then tX w (P.x (ixC P.n k (j / 2))) (P.y (ixC P.n k (j / 2))) - lowX P w else tY w (P.x (ixC P.n k (j / 2))) (P.y (ixC P.n k (j / 2))) - lowY P w
/-- rows up to a way and a start -/
def setC (P : Bd) (w k : Nat) (r : Nat → Int32) : Prop := ∃ v l, l < 2 * P.n ∧ (v < w ∨ (v = w ∧ l < k)) ∧ r = rowC P v l
def ways (how : Nat) : Nat := if how = 0 then 1 else if how = 1 then 4 else 8
theorem setC_s (P : Bd) (w k : Nat) (hk : k < 2 * P.n) (s : Nat → Int32) : setC P w (k + 1) s ↔ setC P w k s ∨ s = rowC P w k := by
  constructor
  · rintro ⟨v, l, h1, h2, rfl⟩
    by_cases q : v = w ∧ l = k
    · rw [q.1, q.2]; exact Or.inr rfl
    · exact Or.inl ⟨v, l, h1, by omega, rfl⟩
  · rintro (⟨v, l, h1, h2, rfl⟩ | rfl)
    · exact ⟨v, l, h1, by omega, rfl⟩
    · exact ⟨w, k, hk, by omega, rfl⟩
theorem setC_w (P : Bd) (w : Nat) (s : Nat → Int32) : setC P (w + 1) 0 s ↔ setC P w (2 * P.n) s := by
  constructor
  · rintro ⟨v, l, h1, h2, rfl⟩
    exact ⟨v, l, h1, by omega, rfl⟩
  · rintro ⟨v, l, h1, h2, rfl⟩
    exact ⟨v, l, h1, by omega, rfl⟩
theorem Least.iff {C D : (Nat → Int32) → Prop} {N : Nat} {l : Nat → Int32} (h : Least C N l) (e : ∀ s, D s ↔ C s) : Least D N l := by
  obtain ⟨⟨r, r1, r2⟩, h2⟩ := h
  exact ⟨⟨r, (e r).mpr r1, r2⟩, fun s hs => h2 s ((e s).mp hs)⟩
/-- a band that is far from what is changed -/
theorem IsBd.mf {W : Nat → Nat → Prop} {h h' : e_H} {a xs ys : Nat} {P : Bd} (g : IsBd h a xs ys P) (x : MF W h h') (h1 : ∀ j, ¬ W a j) (h2 : ∀ j, ¬ W xs j) (h3 : ∀ j, ¬ W ys j) : IsBd h' a xs ys P :=
  g.ev (fun c _ => by rw [x.k]) (x.I a 2 (h1 2)) (by rw [x.R]) (by rw [x.R]) (funext fun j => x.I xs j (h2 j)) (funext fun j => x.I ys j (h3 j))
theorem RC.mfC {A : Nat → Nat} {b : Nat} {h h' : e_H} {S : St} {W : Nat → Nat → Prop} (w : RC A b h S) (x : MF W h h') (hW : ∀ a j, W a j → CW b a j) : RC A b h' S :=
  w.fr x.toFr (fun a ha => by rw [x.k]; exact w.sh.wf a (by rw [← x.n]; exact ha)) hW
/-- the rows' places -/
def SW (b a j : Nat) : Prop := a = b + 15 ∨ a = b + 16
theorem SW_CW {b a j : Nat} (h : SW b a j) : CW b a j := by unfold SW at h; unfold CW; omega
/-- what an array of ints holds from its start on -/
theorem p_aI' {h : e_H} {a n j : Nat} {v : Int32} (hk : e_k h a = some (.inr (0, n))) (hj : j < n) (hn : n < 2 ^ 31) (hv : e_I h a j = v) : e_aI h a 0 (nI j) = some v := by rw [p_aI hk hj hn, hv]
section
variable {A : Nat → Nat} {b F : Nat} {S : St} {a xs ys : Nat} {P : Bd}
theorem settle_low {h : e_H} (g : IsBd h a xs ys P) (hF : 20 < F) {w : Nat} (hw : w < 8) : lp_X1_settle_48 F h a (nI P.n) (nI w) F 1000000000 1000000000 0 = some (lowX P w, lowY P w) := by
  have := g.le
  refine lp_all3 (lp := lp_X1_settle_48 F h a (nI P.n) (nI w)) (fun i => minTo 1000000000 (fun i => tX w (P.x i) (P.y i)) i) (fun i => minTo 1000000000 (fun i => tY w (P.x i) (P.y i)) i) nI P.n _ (fun i hi f => ?_) (fun f => ?_) (by omega)
  · simp only [lp_X1_settle_48, g.nle hi, g.fx, g.fy, g.ax hi, g.ay hi, f_tX hw, f_tY hw, Option.bind_some, if_false, ← nI_succ, minTo]
  · simp only [lp_X1_settle_48, Int32.le_refl, if_true]; rfl
theorem ixC_f {n k i : Nat} (h0 : 0 < n) (h8 : n ≤ 8) (hk : k < 2 * n) (hi : i < n) : (if nI n ≤ nI k then (if nI n = 0 then (none : Option Int32) else some (2 * nI n + nI k - nI i - (2 * nI n + nI k - nI i) / nI n * nI n)) else (if nI n = 0 then none else some (nI k + nI i - (nI k + nI i) / nI n * nI n))) = some (nI (ixC n k i)) := by
  have e0 : ¬ nI n = 0 := by rw [p_e0 (by omega)]; omega
  have e1 : 2 * nI n + nI k - nI i = nI (2 * n + k - i) := by rw [show (2 : Int32) = nI 2 from rfl, p_mul, p_add, p_sub (by omega)]
  simp only [e0, if_false, e1, p_add, pk_rem (show 2 * n + k - i < 2 ^ 31 by omega) h0 (show n < 2 ^ 31 by omega), pk_rem (show k + i < 2 ^ 31 by omega) h0 (show n < 2 ^ 31 by omega), p_le (show n < 2 ^ 31 by omega) (show k < 2 ^ 31 by omega), ixC]
  by_cases q : n ≤ k
  · have : ¬ k < n := by omega
    simp [q, this]
  · have : k < n := by omega
    simp [q, this]
theorem ixC_lt {n k i : Nat} (h0 : 0 < n) : ixC n k i < n := by unfold ixC; split <;> exact Nat.mod_lt _ h0
theorem settle_row {h : e_H} (w : RC A b h S) (g : IsBd h a xs ys P) (f1 : ∀ j, ¬ SW b a j) (f2 : ∀ j, ¬ SW b xs j) (f3 : ∀ j, ¬ SW b ys j) (h0 : 0 < P.n) (hF : 20 < F) {v k : Nat} (hv : v < 8) (hk : k < 2 * P.n) :
    Ok (lp_X1_settle_126 F b a (nI P.n) (nI v) (lowX P v) (lowY P v) (nI k) F 0 h) fun h' => MF (fun q _ => q = b + 15) h h' ∧ ∀ j, j < 2 * P.n → e_I h' (b + 15) j = rowC P v k j := by
  have hle := g.le
  refine Ok.loopC2 (lp := lp_X1_settle_126 F b a (nI P.n) (nI v) (lowX P v) (lowY P v) (nI k)) (fun i x h' => x = nI i ∧ MF (fun q _ => q = b + 15) h h' ∧ ∀ j, j < 2 * i → e_I h' (b + 15) j = rowC P v k j) P.n (fun i x h' f hi ⟨e, m, r⟩ nx => ?_) (fun x h' f ⟨e, m, r⟩ => ?_) (by omega) ⟨rfl, MF.rf _ h, fun j hj => by omega⟩
  · subst e
    have w' := w.mfC m (fun q j z => SW_CW (j := j) (Or.inl z))
    have g' := g.mf m (fun j z => f1 j (Or.inl z)) (fun j z => f2 j (Or.inl z)) (fun j z => f3 j (Or.inl z))
    have hx := ixC_lt (n := P.n) (k := k) (i := i) h0
    have e2 : (2 : Int32) * nI i = nI (2 * i) := p_mul 2 i
    have e3 : (2 : Int32) * nI i + 1 = nI (2 * i + 1) := by rw [e2, nI_succ]
    have kw := p_wI (w'.kk 15 (.inr (0, 16)) (by simp [cK])) (j := 2 * i) (by omega) (by decide) (tX v (P.x (ixC P.n k i)) (P.y (ixC P.n k i)) - lowX P v)
    obtain ⟨h1, hh1⟩ : ∃ z, z = e_sI h' (b + 15) (2 * i) (tX v (P.x (ixC P.n k i)) (P.y (ixC P.n k i)) - lowX P v) := ⟨_, rfl⟩
    rw [← hh1] at kw
    have m1 : MF (fun q _ => q = b + 15) h h1 := by rw [hh1]; exact m.sI _ rfl
    have w1 := w.mfC m1 (fun q j z => SW_CW (j := j) (Or.inl z))
    have g1 := g.mf m1 (fun j z => f1 j (Or.inl z)) (fun j z => f2 j (Or.inl z)) (fun j z => f3 j (Or.inl z))
    have kw1 := p_wI (w1.kk 15 (.inr (0, 16)) (by simp [cK])) (j := 2 * i + 1) (by omega) (by decide) (tY v (P.x (ixC P.n k i)) (P.y (ixC P.n k i)) - lowY P v)
    simp only [lp_X1_settle_126, g.nle hi, if_false]
    rw [ixC_f h0 hle hk hi]
    simp only [Option.bind_some, w'.f0 13 15 (by decide), g'.fx, g'.fy, g'.ax hx, g'.ay hx, f_tX hv, e3, e2, kw, w1.f0 13 15 (by decide), g1.fx, g1.fy, g1.ax hx, g1.ay hx, f_tY hv, kw1, ← nI_succ]
    refine nx _ _ ⟨rfl, m1.sI _ rfl, fun j hj => ?_⟩
    rw [e_I_sI]
    by_cases q : j = 2 * i + 1
    · rw [if_pos ⟨rfl, q⟩, q]
      unfold rowC
      rw [if_neg (by omega), show (2 * i + 1) / 2 = i by omega]
    · rw [if_neg (fun z => q z.2), hh1, e_I_sI]
      by_cases q2 : j = 2 * i
      · rw [if_pos ⟨rfl, q2⟩, q2]
        unfold rowC
        rw [if_pos (by omega), show 2 * i / 2 = i by omega]
      · rw [if_neg (fun z => q2 z.2)]
        exact r j (by omega)
  · subst e
    simp only [lp_X1_settle_126, Int32.le_refl, if_true]
    exact Ok.ret ⟨m, r⟩
/-- what the least row's array holds after the ways up to v and the starts up to k -/
def LeastAt (P : Bd) (b v k : Nat) (h : e_H) : Prop := Least (setC P v k) (2 * P.n) (e_I h (b + 16))
theorem p_cpI {h : e_H} {s d m1 m2 n : Nat} (k1 : e_k h s = some (.inr (0, m1))) (k2 : e_k h d = some (.inr (0, m2))) (h1 : n ≤ m1) (h2 : n ≤ m2) (h3 : n < 2 ^ 31) : e_cpI h s 0 d 0 (nI n) = some (e_cI h s 0 d 0 n) := by
  unfold e_cpI
  rw [e_len_eq k1, e_len_eq k2]
  simp only [nI_clamp h3]
  rw [if_neg]
  · rfl
  · rintro (q | q | q | q | q)
    · exact absurd q (by decide)
    · exact absurd q (by decide)
    · exact nI_pos h3 q
    · rw [show (0 : Int32).toNatClampNeg = 0 from rfl] at q; omega
    · rw [show (0 : Int32).toNatClampNeg = 0 from rfl] at q; omega
theorem settle_way {h : e_H} (w : RC A b h S) (g : IsBd h a xs ys P) (f1 : ∀ j, ¬ SW b a j) (f2 : ∀ j, ¬ SW b xs j) (f3 : ∀ j, ¬ SW b ys j) (h0 : 0 < P.n) (hF : 20 < F) {v : Nat} (hv : v < 8) {fst : Int32} (hfst : (v = 0 ∧ fst = 1) ∨ (0 < v ∧ fst = 0 ∧ LeastAt P b v 0 h)) :
    Ok (lp_X1_settle_115 F b a (nI P.n) (nI v) (lowX P v) (lowY P v) F fst 0 h) fun z => MF (SW b) h z.2 ∧ z.1 = 0 ∧ LeastAt P b (v + 1) 0 z.2 := by
  have hle := g.le
  refine Ok.loopC3 (lp := lp_X1_settle_115 F b a (nI P.n) (nI v) (lowX P v) (lowY P v)) (fun k u x h' => x = nI k ∧ MF (SW b) h h' ∧ ((v = 0 ∧ k = 0 ∧ u = 1) ∨ (0 < v + k ∧ u = 0 ∧ LeastAt P b v k h'))) (2 * P.n) (fun k u x h' f hk ⟨e, m, r⟩ nx => ?_) (fun u x h' f ⟨e, m, r⟩ => ?_) (by omega) ⟨rfl, MF.rf _ h, ?_⟩
  · subst e
    have w' := w.mfC m (fun q j z => SW_CW z)
    have g' := g.mf m f1 f2 f3
    have e2 : (2 : Int32) * nI P.n = nI (2 * P.n) := p_mul 2 P.n
    have hle2 : (nI (2 * P.n) ≤ nI k) = False := by rw [p_le (by omega) (by omega)]; simp; omega
    simp only [lp_X1_settle_115, e2, hle2, if_false]
    refine Ok.bind (settle_row w' g' f1 f2 f3 h0 hF hv hk) fun h1 ⟨m1, r1⟩ => ?_
    have m1' : MF (SW b) h' h1 := m1.mono fun q j z => Or.inl z
    have m2 := m.tr m1'
    have w1 := w.mfC m2 (fun q j z => SW_CW z)
    have k15 := w1.kk 15 (.inr (0, 16)) (by simp [cK])
    have k16 := w1.kk 16 (.inr (0, 16)) (by simp [cK])
    have same16 : e_I h1 (b + 16) = e_I h' (b + 16) := funext fun j => m1.I _ _ (by omega)
    have cp : e_cpI h1 (b + 15) 0 (b + 16) 0 (nI (2 * P.n)) = some (e_cI h1 (b + 15) 0 (b + 16) 0 (2 * P.n)) := p_cpI k15 k16 (by omega) (by omega) (by omega)
    have mc : MF (SW b) h (e_cI h1 (b + 15) 0 (b + 16) 0 (2 * P.n)) := by
      refine ⟨m2.k, m2.R, m2.n, m2.u, fun q j z => ?_, m2.J⟩
      rw [e_I_cI, if_neg (fun y => z (Or.inr y.1))]
      exact m2.I q j z
    have row : ∀ j, j < 2 * P.n → e_I (e_cI h1 (b + 15) 0 (b + 16) 0 (2 * P.n)) (b + 16) j = rowC P v k j := by
      intro j hj
      rw [e_I_cI, if_pos ⟨rfl, by omega, by omega⟩, show 0 + (j - 0) = j by omega]
      exact r1 j hj
    rcases r with ⟨rv, rk, ru⟩ | ⟨r0, ru, rl⟩
    · subst ru
      simp only [show ¬ (1 : Int32) = 0 by decide, if_false, bE_o, w1.f0 13 15 (by decide), w1.f0 14 16 (by decide), cp, Option.bind_some, u2_s, ← nI_succ]
      refine nx _ _ _ ⟨rfl, mc, Or.inr ⟨by omega, rfl, ?_⟩⟩
      refine Least.one (r := rowC P v k) (fun s hs => ?_) ⟨v, k, hk, by omega, rfl⟩ row
      obtain ⟨v1, l1, q1, q2, q3⟩ := hs
      have : v1 = v ∧ l1 = k := by omega
      rw [q3, this.1, this.2]
    · subst ru
      obtain ⟨z, hz1, hz2, hz3⟩ := f_isLess (F := F) (N := 2 * P.n) (h := h1) (p := b + 15) (q := b + 16) (a := rowC P v k) (b := e_I h' (b + 16)) (by omega) (by omega) (fun j hj => p_aI' k15 (by omega) (by decide) (r1 j hj)) (fun j hj => p_aI' k16 (by omega) (by decide) (by rw [same16]))
      simp only [if_true, w1.f0 13 15 (by decide), w1.f0 14 16 (by decide), hz1, Option.bind_some]
      by_cases hq : z = 0
      · simp only [hq, if_true, bE_e, Option.bind_some, u2_s, ← nI_succ]
        refine nx _ _ _ ⟨rfl, m2, Or.inr ⟨by omega, rfl, ?_⟩⟩
        exact rl.stay (fun s => setC_s P v k hk s) (hz3.mp hq) (fun j hj => by rw [same16])
      · simp only [hq, if_false, bE_o, w1.f0 13 15 (by decide), w1.f0 14 16 (by decide), cp, Option.bind_some, u2_s, ← nI_succ]
        refine nx _ _ _ ⟨rfl, mc, Or.inr ⟨by omega, rfl, ?_⟩⟩
        exact rl.better (fun s => setC_s P v k hk s) (Classical.byContradiction fun y => hq (hz3.mpr y)) row
  · subst e
    have e2 : (2 : Int32) * nI P.n = nI (2 * P.n) := p_mul 2 P.n
    simp only [lp_X1_settle_115, e2, Int32.le_refl, if_true]
    rcases r with ⟨rv, rk, ru⟩ | ⟨r0, ru, rl⟩
    · omega
    · exact Ok.ret ⟨m, ru, rl.iff fun s => setC_w P v s⟩
  · rcases hfst with ⟨q1, q2⟩ | ⟨q1, q2, q3⟩
    · exact Or.inl ⟨q1, rfl, q2⟩
    · exact Or.inr ⟨by omega, q2, q3⟩
theorem g_in2 {w : Int32} (h : g_in w 0 2 = true) : w = 0 ∨ w = 1 ∨ w = 2 := by
  unfold g_in at h
  simp only [Bool.and_eq_true, Bool.not_eq_true', decide_eq_false_iff_not] at h
  obtain ⟨a, ha, rfl⟩ := i_nn h.1
  have h2 := h.2
  rw [show (2 : Int32) = nI 2 from rfl, p_lt (by decide) ha] at h2
  have : a = 0 ∨ a = 1 ∨ a = 2 := by omega
  rcases this with rfl | rfl | rfl
  · exact Or.inl rfl
  · exact Or.inr (Or.inl rfl)
  · exact Or.inr (Or.inr rfl)
theorem settle {h : e_H} (w : RC A b h S) (g : IsBd h a xs ys P) (f1 : ∀ j, ¬ SW b a j) (f2 : ∀ j, ¬ SW b xs j) (f3 : ∀ j, ¬ SW b ys j) (h0 : 0 < P.n) (hF : 20 < F) {how : Nat} (hh : how < 3) :
    Ok (f_X1_settle F h b a (nI how)) fun h' => MF (SW b) h h' ∧ LeastAt P b (ways how) 0 h' := by
  have hle := g.le
  have hw8 : ways how ≤ 8 := by unfold ways; split; omega; split <;> omega
  have hw1 : 1 ≤ ways how := by unfold ways; split; omega; split <;> omega
  have e1 : (if nI how = 0 then some (1 : Int32) else if nI how = 1 then some 4 else some 8) = some (nI (ways how)) := by
    have : how = 0 ∨ how = 1 ∨ how = 2 := by omega
    rcases this with rfl | rfl | rfl <;> rfl
  unfold f_X1_settle
  refine Ok.eq g.fn (Ok.bind (R := fun h' => MF (SW b) h h' ∧ LeastAt P b (ways how) 0 h') ?_ fun h' q => Ok.ret q)
  refine Ok.loopC3 (lp := lp_X1_settle_11 F b a (nI how) (nI P.n)) (fun v u x h' => x = nI v ∧ MF (SW b) h h' ∧ ((v = 0 ∧ u = 1) ∨ (0 < v ∧ u = 0 ∧ LeastAt P b v 0 h'))) (ways how) (fun v u x h' f hv ⟨e, m, r⟩ nx => ?_) (fun u x h' f ⟨e, m, r⟩ => ?_) (by omega) ⟨rfl, MF.rf _ h, Or.inl ⟨rfl, rfl⟩⟩
  · subst e
    have w' := w.mfC m (fun q j z => SW_CW z)
    have g' := g.mf m f1 f2 f3
    have hle2 : (nI (ways how) ≤ nI v) = False := by rw [p_le (by omega) (by omega)]; simp; omega
    simp only [lp_X1_settle_11, e1, Option.bind_some, hle2, if_false, settle_low g' hF (show v < 8 by omega), u2_s]
    refine Ok.bind (settle_way w' g' f1 f2 f3 h0 hF (show v < 8 by omega) r) fun z ⟨m1, r1, r2⟩ => ?_
    obtain ⟨z1, z2⟩ := z
    simp only [u2_s, Option.bind_some, ← nI_succ]
    exact nx _ _ _ ⟨rfl, m.tr m1, Or.inr ⟨by omega, r1, r2⟩⟩
  · subst e
    simp only [lp_X1_settle_11, e1, Option.bind_some, Int32.le_refl, if_true]
    rcases r with ⟨q1, q2⟩ | ⟨q1, q2, q3⟩
    · omega
    · exact Ok.ret ⟨m, q3⟩
end
