/-! PURE LAYER 24: copies in the model -/
/-- a loop that copies ints from cell s to another cell d -/
theorem copyI {lp : Nat → Int32 → e_H → Option e_H} {h : e_H} {s d : Nat} (sd : s ≠ d) (p q : Nat → Nat) (N : Nat) (inj : ∀ i j, i < N → j < N → q i = q j → i = j)
    (st : ∀ f i h', i < N → MF (fun a j => a = d ∧ ∃ k, k < N ∧ j = q k) h h' → lp (f + 1) (nI i) h' = lp f (nI (i + 1)) (e_sI h' d (q i) (e_I h' s (p i))))
    (en : ∀ f h', MF (fun a j => a = d ∧ ∃ k, k < N ∧ j = q k) h h' → lp (f + 1) (nI N) h' = some h') {F : Nat} (hF : N < F) :
    Ok (lp F (nI 0) h) fun h' => MF (fun a j => a = d ∧ ∃ k, k < N ∧ j = q k) h h' ∧ ∀ i, i < N → e_I h' d (q i) = e_I h s (p i) := by
  refine Ok.loopC2 (lp := lp) (fun i x h' => x = nI i ∧ MF (fun a j => a = d ∧ ∃ k, k < N ∧ j = q k) h h' ∧ ∀ j, j < i → e_I h' d (q j) = e_I h s (p j)) N (fun i x h' f hi ⟨e, mf, r⟩ nx => ?_) (fun x h' f ⟨e, mf, r⟩ => ?_) hF ⟨rfl, MF.rf _ h, fun j hj => by omega⟩
  · subst e
    rw [st f i h' hi mf]
    refine nx _ _ ⟨rfl, mf.sI _ ⟨rfl, i, hi, rfl⟩, fun j hj => ?_⟩
    rw [e_I_sI]
    by_cases z : j = i
    · rw [if_pos ⟨rfl, by rw [z]⟩, z, mf.I s _ (fun y => sd y.1)]
    · rw [if_neg (fun y => z (inj j i (by omega) hi y.2))]
      exact r j (by omega)
  · subst e
    rw [en f h' mf]
    exact Ok.ret ⟨mf, r⟩
theorem copyJ {lp : Nat → Int32 → e_H → Option e_H} {h : e_H} {s d : Nat} (sd : s ≠ d) (p q : Nat → Nat) (N : Nat) (inj : ∀ i j, i < N → j < N → q i = q j → i = j)
    (st : ∀ f i h', i < N → MF (fun a j => a = d ∧ ∃ k, k < N ∧ j = q k) h h' → lp (f + 1) (nI i) h' = lp f (nI (i + 1)) (e_sJ h' d (q i) (e_J h' s (p i))))
    (en : ∀ f h', MF (fun a j => a = d ∧ ∃ k, k < N ∧ j = q k) h h' → lp (f + 1) (nI N) h' = some h') {F : Nat} (hF : N < F) :
    Ok (lp F (nI 0) h) fun h' => MF (fun a j => a = d ∧ ∃ k, k < N ∧ j = q k) h h' ∧ ∀ i, i < N → e_J h' d (q i) = e_J h s (p i) := by
  refine Ok.loopC2 (lp := lp) (fun i x h' => x = nI i ∧ MF (fun a j => a = d ∧ ∃ k, k < N ∧ j = q k) h h' ∧ ∀ j, j < i → e_J h' d (q j) = e_J h s (p j)) N (fun i x h' f hi ⟨e, mf, r⟩ nx => ?_) (fun x h' f ⟨e, mf, r⟩ => ?_) hF ⟨rfl, MF.rf _ h, fun j hj => by omega⟩
  · subst e
    rw [st f i h' hi mf]
    refine nx _ _ ⟨rfl, mf.sJ _ ⟨rfl, i, hi, rfl⟩, fun j hj => ?_⟩
    rw [e_J_sJ]
    by_cases z : j = i
    · rw [if_pos ⟨rfl, by rw [z]⟩, z, mf.J s _ (fun y => sd y.1)]
    · rw [if_neg (fun y => z (inj j i (by omega) hi y.2))]
      exact r j (by omega)
  · subst e
    rw [en f h' mf]
    exact Ok.ret ⟨mf, r⟩
/-- a loop that slides ints of cell d down by g places -/
theorem shiftI {lp : Nat → Int32 → e_H → Option e_H} {h : e_H} {d g : Nat} (hg : 0 < g) (N : Nat)
    (st : ∀ f i h', i < N → MF (fun a j => a = d ∧ j < N) h h' → lp (f + 1) (nI (g + i)) h' = lp f (nI (g + (i + 1))) (e_sI h' d i (e_I h' d (g + i))))
    (en : ∀ f h', MF (fun a j => a = d ∧ j < N) h h' → lp (f + 1) (nI (g + N)) h' = some h') {F : Nat} (hF : N < F) :
    Ok (lp F (nI (g + 0)) h) fun h' => MF (fun a j => a = d ∧ j < N) h h' ∧ ∀ i, i < N → e_I h' d i = e_I h d (g + i) := by
  refine Ok.loopC2 (lp := lp) (fun i x h' => x = nI (g + i) ∧ MF (fun a j => a = d ∧ j < N) h h' ∧ (∀ j, j < i → e_I h' d j = e_I h d (g + j)) ∧ ∀ j, i ≤ j → e_I h' d j = e_I h d j) N (fun i x h' f hi ⟨e, mf, r, r2⟩ nx => ?_) (fun x h' f ⟨e, mf, r, r2⟩ => ?_) hF ⟨rfl, MF.rf _ h, fun j hj => by omega, fun j _ => rfl⟩
  · subst e
    rw [st f i h' hi mf]
    refine nx _ _ ⟨rfl, mf.sI _ ⟨rfl, hi⟩, fun j hj => ?_, fun j hj => ?_⟩
    · rw [e_I_sI]
      by_cases z : j = i
      · rw [if_pos ⟨rfl, z⟩, z, r2 _ (by omega)]
      · rw [if_neg (fun y => z y.2)]
        exact r j (by omega)
    · rw [e_I_sI, if_neg (by omega)]
      exact r2 j (by omega)
  · subst e
    rw [en f h' mf]
    exact Ok.ret ⟨mf, r⟩
theorem shiftJ {lp : Nat → Int32 → e_H → Option e_H} {h : e_H} {d g : Nat} (hg : 0 < g) (N : Nat)
    (st : ∀ f i h', i < N → MF (fun a j => a = d ∧ j < N) h h' → lp (f + 1) (nI (g + i)) h' = lp f (nI (g + (i + 1))) (e_sJ h' d i (e_J h' d (g + i))))
    (en : ∀ f h', MF (fun a j => a = d ∧ j < N) h h' → lp (f + 1) (nI (g + N)) h' = some h') {F : Nat} (hF : N < F) :
    Ok (lp F (nI (g + 0)) h) fun h' => MF (fun a j => a = d ∧ j < N) h h' ∧ ∀ i, i < N → e_J h' d i = e_J h d (g + i) := by
  refine Ok.loopC2 (lp := lp) (fun i x h' => x = nI (g + i) ∧ MF (fun a j => a = d ∧ j < N) h h' ∧ (∀ j, j < i → e_J h' d j = e_J h d (g + j)) ∧ ∀ j, i ≤ j → e_J h' d j = e_J h d j) N (fun i x h' f hi ⟨e, mf, r, r2⟩ nx => ?_) (fun x h' f ⟨e, mf, r, r2⟩ => ?_) hF ⟨rfl, MF.rf _ h, fun j hj => by omega, fun j _ => rfl⟩
  · subst e
    rw [st f i h' hi mf]
    refine nx _ _ ⟨rfl, mf.sJ _ ⟨rfl, hi⟩, fun j hj => ?_, fun j hj => ?_⟩
    · rw [e_J_sJ]
      by_cases z : j = i
      · rw [if_pos ⟨rfl, z⟩, z, r2 _ (by omega)]
      · rw [if_neg (fun y => z y.2)]
        exact r j (by omega)
    · rw [e_J_sJ, if_neg (by omega)]
      exact r2 j (by omega)
  · subst e
    rw [en f h' mf]
    exact Ok.ret ⟨mf, r⟩
/-! rows that tell the same -/
theorem MHd.congr {I I' : Nat → Int32} {d : Hd} (w : MHd I d) (e : ∀ k, k < 105 → I' k = I k) : MHd I' d :=
  ⟨w.w10, w.h10, by rw [e 0 (by decide)]; exact w.w, by rw [e 1 (by decide)]; exact w.hh, by rw [e 2 (by decide)]; exact w.bell, by rw [e 3 (by decide)]; exact w.outs, fun i hi => by rw [e _ (by omega)]; exact w.out i hi⟩
theorem MBd.congr {I I' : Nat → Int32} {b b' : Nat} {P : Bd} (w : MBd I b P) (e : ∀ k, k < 17 → I' (105 + 17 * b' + k) = I (105 + 17 * b + k)) : MBd I' b' P := by
  have h8 := w.le
  refine ⟨by rw [show 105 + 17 * b' = 105 + 17 * b' + 0 by omega, e 0 (by decide)]; exact w.n, w.pos, w.le, fun i hi => ?_, fun i hi => ?_⟩
  · rw [show 105 + 17 * b' + 1 + 2 * i = 105 + 17 * b' + (1 + 2 * i) by omega, e _ (by omega), show 105 + 17 * b + (1 + 2 * i) = 105 + 17 * b + 1 + 2 * i by omega]; exact w.x i hi
  · rw [show 105 + 17 * b' + 2 + 2 * i = 105 + 17 * b' + (2 + 2 * i) by omega, e _ (by omega), show 105 + 17 * b + (2 + 2 * i) = 105 + 17 * b + 2 + 2 * i by omega]; exact w.y i hi
theorem MRow.congr {I I' : Nat → Int32} {J J' : Nat → Int64} {d : Hd} {m : Nat} {bd : Nat → Bd} (w : MRow I J d m bd) (e : ∀ k, k < 241 → I' k = I k) (f : ∀ k, k < 8 → J' k = J k) : MRow I' J' d m bd := by
  have h8 := w.m8
  exact ⟨w.hd.congr fun k hk => e k (by omega), w.m8, by rw [e 4 (by decide)]; exact w.mm, fun i hi => (w.bb i hi).congr fun k hk => e _ (by omega), fun i hi => by rw [f i (by omega)]; exact w.nm i hi⟩
theorem MCl.congr {I I' : Nat → Int32} {c : Cl} (w : MCl I c) (e : ∀ k, 241 ≤ k → k < 261 → I' k = I k) : MCl I' c := by
  have h8 := w.le
  exact ⟨by rw [e _ (by decide) (by decide)]; exact w.has, w.le, by rw [e _ (by decide) (by decide)]; exact w.n, fun z => by rw [e _ (by decide) (by decide)]; exact w.x z, fun z => by rw [e _ (by decide) (by decide)]; exact w.y z, fun k hk => by rw [e _ (by omega) (by omega)]; exact w.dx k hk, fun k hk => by rw [e _ (by omega) (by omega)]; exact w.dy k hk⟩
theorem MLn.congr {I I' : Nat → Int32} {m : Nat} {a b : Nat → Nat} (w : MLn I m a b) (e : ∀ k, 261 ≤ k → k < 270 → I' k = I k) : MLn I' m a b := by
  have h4 := w.le
  exact ⟨w.le, by rw [e _ (by decide) (by decide)]; exact w.n, fun k hk => by rw [e _ (by omega) (by omega)]; exact w.fa k hk, fun k hk => by rw [e _ (by omega) (by omega)]; exact w.fb k hk⟩
theorem MNode.congr {I I' : Nat → Int32} {K K' : Nat → Int64} {T : Sn} (e : ∀ k, 272 ≤ k → k < 512 → I' k = I k) (f : ∀ k, k < 20 → K' k = K k) : ∀ n k, MNode I K T n k → MNode I' K' T n k := by
  intro n
  induction n with
  | zero => intro k w; exact w
  | succ n ih =>
    intro k w
    obtain ⟨h60, w⟩ := w
    refine ⟨h60, ?_⟩
    rw [e (272 + 4 * k) (by omega) (by omega), e (272 + 4 * k + 1) (by omega) (by omega), e (272 + 4 * k + 2) (by omega) (by omega), e (272 + 4 * k + 3) (by omega) (by omega)]
    rcases w with ⟨t, w1, w2, w3⟩ | ⟨t, w1, w2, w3, w4, w5⟩ | ⟨t, w1, w2, w3, w4, w5⟩ | ⟨t, w1, u, w2, w3, w4⟩ | w | w
    · exact Or.inl ⟨t, w1, w2, ih _ w3⟩
    · exact Or.inr (Or.inl ⟨t, w1, w2, w3, ih _ w4, ih _ w5⟩)
    · exact Or.inr (Or.inr (Or.inl ⟨t, w1, w2, w3, ih _ w4, ih _ w5⟩))
    · exact Or.inr (Or.inr (Or.inr (Or.inl ⟨t, w1, u, w2, w3, by rw [f u w2]; exact w4⟩)))
    · exact Or.inr (Or.inr (Or.inr (Or.inr (Or.inl w))))
    · exact Or.inr (Or.inr (Or.inr (Or.inr (Or.inr w))))
/-- another row of bands -/
theorem MIm.row' {I I' : Nat → Int32} {J J' K : Nat → Int64} {c : Im} {m : Nat} {bd : Nat → Bd} (w : MIm I J K c) (e : ∀ k, 241 ≤ k → k < 512 → I' k = I k) (r : MRow I' J' c.d m bd) : MIm I' J' K (Im.mk c.d (m) (bd) c.c c.lm c.la c.lb c.sn) :=
  ⟨r, w.cl.congr fun k h1 h2 => e k h1 (by omega), w.ln.congr fun k h1 h2 => e k (by omega) (by omega), by rw [e _ (by decide) (by decide)]; exact w.has, fun s hs => by
    obtain ⟨h1, h2⟩ := w.sn s hs
    exact ⟨by rw [e _ (by decide) (by decide)]; exact h1, MNode.congr (fun k h1 h2 => e k (by omega) h2) (fun _ _ => rfl) _ _ h2⟩⟩
/-! the model's state, some of it new -/
def UWm (m a j : Nat) : Prop := MW m a j ∨ (a = m ∧ j = 27) ∨ a = m + 2 ∨ a = m + 6 ∨ a = m + 7 ∨ a = m + 9
theorem RM.upd {m : Nat} {h h' : e_H} {S S' : St} {W : Nat → Nat → Prop} (w : RM m h S) (x : MF W h h') (hW : ∀ a j, W a j → UWm m a j) (hS : S' = (St.mk S.tl S.tp S.fault S.why (S'.c) (S'.um) (S'.ud) S.fm S.fo S.xm S.tx S.im))
    (c : MIm (e_I h' (m + 2)) (e_J h' (m + 7)) (e_J h' (m + 10)) S'.c) (um : e_I h' m 27 = nI S'.um) (ud : ∀ i, i < S'.um → MRow (fun k => e_I h' (m + 6) (241 * i + k)) (fun k => e_J h' (m + 9) (8 * i + k)) S'.c.d (S'.ud i).1 (S'.ud i).2) : RM m h' S' := by
  have nw : ∀ a j, ¬ UWm m a j → ¬ W a j := fun a j z q => z (hW a j q)
  have FI : ∀ k, (∀ j, ¬ UWm m (m + k) j) → e_I h' (m + k) = e_I h (m + k) := fun k h1 => funext fun j => x.I _ _ (nw _ _ (h1 j))
  have FJ : ∀ k, (∀ j, ¬ UWm m (m + k) j) → e_J h' (m + k) = e_J h (m + k) := fun k h1 => funext fun j => x.J _ _ (nw _ _ (h1 j))
  have F0 : ∀ j, ¬ UWm m m j → e_I h' m j = e_I h m j := fun j h1 => x.I _ _ (nw _ _ h1)
  rw [hS]
  refine ⟨w.sh.mf (fun a _ _ => by rw [x.k]) (by rw [x.R]), (F0 2 (by unfold UWm MW; omega)).trans w.tl, ?_, ?_, ?_, c, um, ud, ?_, ?_, ?_, ?_, ?_, ?_⟩
  · rw [FI 1 (fun j => by unfold UWm MW; omega)]; exact w.tp
  · exact (F0 10 (by unfold UWm MW; omega)).trans w.fault
  · exact (F0 12 (by unfold UWm MW; omega)).trans w.why
  · exact (F0 33 (by unfold UWm MW; omega)).trans w.fm
  · rw [FI 18 (fun j => by unfold UWm MW; omega)]; exact w.fo
  · exact (F0 36 (by unfold UWm MW; omega)).trans w.xm
  · rw [FI 19 (fun j => by unfold UWm MW; omega)]; exact w.tx
  · rw [FI 13 (fun j => by unfold UWm MW; omega)]; exact w.has
  · rw [FI 5 (fun j => by unfold UWm MW; omega), FJ 11 (fun j => by unfold UWm MW; omega), FJ 12 (fun j => by unfold UWm MW; omega)]; exact w.im
def St.keep (S : St) : St := (St.mk S.tl S.tp S.fault S.why S.c ((if S.um = 8 then 7 else S.um) + 1) (fun k => if k = (if S.um = 8 then 7 else S.um) then (S.c.m, S.c.bd) else if S.um = 8 then S.ud (k + 1) else S.ud k) S.fm S.fo S.xm S.tx S.im)
section
variable {m F : Nat} {S : St}
theorem layRead {h : e_H} (w : RM m h S) (hF : 1000 < F) : Ok (f_X10_layRead F h m) fun h' => MF (fun a j => a = m + 3 ∧ j < 241) h h' ∧ ∀ i, i < 241 → e_I h' (m + 3) i = e_I h (m + 2) i := by
  unfold f_X10_layRead
  refine Ok.bind (R := fun h' => MF (fun a j => a = m + 3 ∧ j < 241) h h' ∧ ∀ i, i < 241 → e_I h' (m + 3) i = e_I h (m + 2) i) ?_ fun h' q => Ok.ret q
  refine Ok.mono (copyI (lp := lp_X10_layRead_2 F m) (s := m + 2) (d := m + 3) (by omega) id id 241 (fun i j _ _ e => e) (fun f i h' hi mf => ?_) (fun f h' mf => ?_) (by omega)) fun h' ⟨mf, r⟩ => ⟨mf.mono fun a j ⟨z1, k, z2, z3⟩ => ⟨z1, by rw [z3]; exact z2⟩, r⟩
  · have w' := w.mf mf fun a j z => by have := z.1; unfold MW; omega
    have hle : ((241 : Int32) ≤ nI i) = False := by rw [show (241 : Int32) = nI 241 from rfl, p_le (by omega) (by omega)]; simp; omega
    have kw := p_wI' (w'.kk 2 16 0 258 rfl) (rfl : nI i = nI i) (by omega) (by decide) (e_I h' (m + 2) i)
    simp only [lp_X10_layRead_2, hle, if_false, w'.f0 1 15 0 512 rfl, w'.f0 2 16 0 258 rfl, show m + 1 + 1 = m + 2 from rfl, w'.rdN (show i < 512 by omega), Option.bind_some, ← nI_succ]
    rw [kw]; rfl
  · simp only [lp_X10_layRead_2, show (241 : Int32) ≤ nI 241 from Int32.le_refl _, if_true]
/-- what is at hand is kept -/
theorem snapShot {h : e_H} (w : RM m h S) (bn : Bn S) (hF : 3000 < F) : Ok (f_X10_snapShot F h m) fun h' => MF (fun a j => (a = m ∧ j = 27) ∨ a = m + 6 ∨ a = m + 9) h h' ∧ RM m h' S.keep := by
  have h8 := bn.um
  unfold f_X10_snapShot
  refine Ok.eq (v := nI S.um) (by rw [p_fI w.sh.1, w.um]) ?_
  obtain ⟨u, hu⟩ : ∃ u, u = (if S.um = 8 then 7 else S.um) := ⟨_, rfl⟩
  have u7 : u ≤ 7 := by rw [hu]; split <;> omega
  refine Ok.bind (R := fun h1 => MF (fun a j => (a = m ∧ j = 27) ∨ a = m + 6 ∨ a = m + 9) h h1 ∧ e_I h1 m 27 = nI u ∧ ∀ i, i < u → MRow (fun k => e_I h1 (m + 6) (241 * i + k)) (fun k => e_J h1 (m + 9) (8 * i + k)) S.c.d (S.keep.ud i).1 (S.keep.ud i).2) ?_ fun h1 ⟨mf1, u1, r1⟩ => ?_
  · by_cases q : S.um = 8
    · have hu7 : u = 7 := by rw [hu, if_pos q]
      have q' : nI S.um = 8 := by rw [q]; rfl
      rw [if_pos q']
      have s1 : Ok (lp_X10_snapShot_13 F m F 241 h) fun h' => MF (fun a j => a = m + 6 ∧ j < 1687) h h' ∧ ∀ i, i < 1687 → e_I h' (m + 6) i = e_I h (m + 6) (241 + i) := by
        refine shiftI (lp := lp_X10_snapShot_13 F m) (g := 241) (by decide) 1687 (fun f i h' hi mf => ?_) (fun f h' mf => ?_) (by omega)
        · have f19 : e_fA h' m 8 19 = some (m + 6) := p_fA (by rw [mf.k]; exact w.sh.1) (by rw [mf.R]; exact (w.sh.2 5 (19, 0, 1928) rfl).1)
          have k6 : e_k h' (m + 6) = some (.inr (0, 1928)) := by rw [mf.k]; exact w.kk 5 19 0 1928 rfl
          have hle : ((1928 : Int32) ≤ nI (241 + i)) = False := by rw [show (1928 : Int32) = nI 1928 from rfl, p_le (by omega) (by omega)]; simp; omega
          have e1 : nI (241 + i) - 241 = nI i := by rw [show (241 : Int32) = nI 241 from rfl, p_sub (by omega), Nat.add_sub_cancel_left]
          have kw := p_wI' k6 e1 (by omega) (by decide) (e_I h' (m + 6) (241 + i))
          simp only [lp_X10_snapShot_13, hle, if_false, f19, p_aI k6 (show 241 + i < 1928 by omega) (by decide), kw, Option.bind_some, ← nI_succ]
          rfl
        · simp only [lp_X10_snapShot_13, show (1928 : Int32) ≤ nI (241 + 1687) from Int32.le_refl _, if_true]
      refine Ok.bind s1 fun h2 ⟨mf2, r2⟩ => ?_
      have s2 : Ok (lp_X10_snapShot_45 F m F 8 h2) fun h' => MF (fun a j => a = m + 9 ∧ j < 56) h2 h' ∧ ∀ i, i < 56 → e_J h' (m + 9) i = e_J h2 (m + 9) (8 + i) := by
        refine shiftJ (lp := lp_X10_snapShot_45 F m) (g := 8) (by decide) 56 (fun f i h' hi mf => ?_) (fun f h' mf => ?_) (by omega)
        · have f22 : e_fA h' m 8 22 = some (m + 9) := p_fA (by rw [mf.k, mf2.k]; exact w.sh.1) (by rw [mf.R, mf2.R]; exact (w.sh.2 8 (22, 3, 64) rfl).1)
          have k9 : e_k h' (m + 9) = some (.inr (3, 64)) := by rw [mf.k, mf2.k]; exact w.kk 8 22 3 64 rfl
          have hle : ((64 : Int32) ≤ nI (8 + i)) = False := by rw [show (64 : Int32) = nI 64 from rfl, p_le (by omega) (by omega)]; simp; omega
          have e1 : nI (8 + i) - 8 = nI i := by rw [show (8 : Int32) = nI 8 from rfl, p_sub (by omega), Nat.add_sub_cancel_left]
          simp only [lp_X10_snapShot_45, hle, if_false, f22, e1, p_aJ k9 (show 8 + i < 64 by omega) (by decide), p_wJ k9 (show i < 64 by omega) (by decide), Option.bind_some, ← nI_succ]
          rfl
        · simp only [lp_X10_snapShot_45, show (64 : Int32) ≤ nI (8 + 56) from Int32.le_refl _, if_true]
      refine Ok.bind s2 fun h3 ⟨mf3, r3⟩ => ?_
      have km : e_k h3 m = some (.inl 8) := by rw [mf3.k, mf2.k]; exact w.sh.1
      refine Ok.eq (v := nI 8) (by rw [p_fI km, mf3.I _ _ (by omega), mf2.I _ _ (by omega), w.um, q]) (Ok.gI km (Ok.ret ⟨?_, ?_, fun i hi => ?_⟩))
      · exact ((mf2.mono fun a j z => by omega).tr (mf3.mono fun a j z => by omega)).sI _ (by omega)
      · rw [e_I_sI, if_pos ⟨rfl, rfl⟩, hu7]; rfl
      · have : S.keep.ud i = S.ud (i + 1) := by
          show (if i = (if S.um = 8 then 7 else S.um) then (S.c.m, S.c.bd) else if S.um = 8 then S.ud (i + 1) else S.ud i) = _
          rw [if_neg (by rw [← hu]; omega), if_pos q]
        rw [this]
        refine (w.ud (i + 1) (by omega)).congr (fun k hk => ?_) (fun k hk => ?_)
        · rw [e_I_sI, if_neg (by omega), mf3.I _ _ (by omega), r2 _ (by omega), show 241 + (241 * i + k) = 241 * (i + 1) + k by omega]
        · rw [e_J_sI, r3 _ (by omega), mf2.J _ _ (by omega), show 8 + (8 * i + k) = 8 * (i + 1) + k by omega]
    · have q' : ¬ nI S.um = 8 := by rw [show (8 : Int32) = nI 8 from rfl, p_eq (by omega) (by omega)]; exact q
      have huu : u = S.um := by rw [hu, if_neg q]
      rw [if_neg q']
      refine Ok.ret ⟨MF.rf _ h, by rw [huu]; exact w.um, fun i hi => ?_⟩
      have : S.keep.ud i = S.ud i := by
        show (if i = (if S.um = 8 then 7 else S.um) then (S.c.m, S.c.bd) else if S.um = 8 then S.ud (i + 1) else S.ud i) = _
        rw [if_neg (by rw [← hu]; omega), if_neg q]
      rw [this]
      exact w.ud i (by omega)
  · have g1 : ∀ h', MF (fun a j => a = m + 6 ∧ ∃ k, k < 241 ∧ j = 241 * u + k) h1 h' → e_k h' m = some (.inl 8) ∧ e_I h' m 27 = nI u := fun h' mf => ⟨by rw [mf.k, mf1.k]; exact w.sh.1, by rw [mf.I _ _ (by omega)]; exact u1⟩
    have s3 : Ok (lp_X10_snapShot_84 F m F 0 h1) fun h' => MF (fun a j => a = m + 6 ∧ ∃ k, k < 241 ∧ j = 241 * u + k) h1 h' ∧ ∀ i, i < 241 → e_I h' (m + 6) (241 * u + i) = e_I h1 (m + 2) i := by
      refine copyI (lp := lp_X10_snapShot_84 F m) (s := m + 2) (d := m + 6) (by omega) id (fun k => 241 * u + k) 241 (fun i j _ _ e => by omega) (fun f i h' hi mf => ?_) (fun f h' mf => ?_) (by omega)
      · obtain ⟨km, e27⟩ := g1 h' mf
        have f19 : e_fA h' m 8 19 = some (m + 6) := p_fA km (by rw [mf.R, mf1.R]; exact (w.sh.2 5 (19, 0, 1928) rfl).1)
        have f15 : e_fA h' m 8 15 = some (m + 2) := p_fA km (by rw [mf.R, mf1.R]; exact (w.sh.2 1 (15, 0, 512) rfl).1)
        have k6 : e_k h' (m + 6) = some (.inr (0, 1928)) := by rw [mf.k, mf1.k]; exact w.kk 5 19 0 1928 rfl
        have k2 : e_k h' (m + 2) = some (.inr (0, 512)) := by rw [mf.k, mf1.k]; exact w.kk 1 15 0 512 rfl
        have hle : ((241 : Int32) ≤ nI i) = False := by rw [show (241 : Int32) = nI 241 from rfl, p_le (by omega) (by omega)]; simp; omega
        have e1 : 241 * nI u + nI i = nI (241 * u + i) := by rw [show (241 : Int32) = nI 241 from rfl, p_mul, p_add]
        have kw := p_wI' k6 e1 (by omega) (by decide) (e_I h' (m + 2) i)
        simp only [lp_X10_snapShot_84, hle, if_false, f19, f15, p_fI km, e27, p_aI k2 (show i < 512 by omega) (by decide), kw, Option.bind_some, ← nI_succ]
        rfl
      · simp only [lp_X10_snapShot_84, show (241 : Int32) ≤ nI 241 from Int32.le_refl _, if_true]
    refine Ok.bind s3 fun h2 ⟨mf2, r2⟩ => ?_
    obtain ⟨km2, e27⟩ := g1 h2 mf2
    have s4 : Ok (lp_X10_snapShot_120 F m F 0 h2) fun h' => MF (fun a j => a = m + 9 ∧ ∃ k, k < 8 ∧ j = 8 * u + k) h2 h' ∧ ∀ i, i < 8 → e_J h' (m + 9) (8 * u + i) = e_J h2 (m + 7) i := by
      refine copyJ (lp := lp_X10_snapShot_120 F m) (s := m + 7) (d := m + 9) (by omega) id (fun k => 8 * u + k) 8 (fun i j _ _ e => by omega) (fun f i h' hi mf => ?_) (fun f h' mf => ?_) (by omega)
      · have km : e_k h' m = some (.inl 8) := by rw [mf.k]; exact km2
        have e27' : e_I h' m 27 = nI u := by rw [mf.I _ _ (by omega)]; exact e27
        have f22 : e_fA h' m 8 22 = some (m + 9) := p_fA km (by rw [mf.R, mf2.R, mf1.R]; exact (w.sh.2 8 (22, 3, 64) rfl).1)
        have f20 : e_fA h' m 8 20 = some (m + 7) := p_fA km (by rw [mf.R, mf2.R, mf1.R]; exact (w.sh.2 6 (20, 3, 8) rfl).1)
        have k9 : e_k h' (m + 9) = some (.inr (3, 64)) := by rw [mf.k, mf2.k, mf1.k]; exact w.kk 8 22 3 64 rfl
        have k7 : e_k h' (m + 7) = some (.inr (3, 8)) := by rw [mf.k, mf2.k, mf1.k]; exact w.kk 6 20 3 8 rfl
        have hle : ((8 : Int32) ≤ nI i) = False := by rw [show (8 : Int32) = nI 8 from rfl, p_le (by omega) (by omega)]; simp; omega
        have e1 : 8 * nI u + nI i = nI (8 * u + i) := by rw [show (8 : Int32) = nI 8 from rfl, p_mul, p_add]
        simp only [lp_X10_snapShot_120, hle, if_false, f22, f20, p_fI km, e27', e1, p_aJ k7 hi (by decide), p_wJ k9 (show 8 * u + i < 64 by omega) (by decide), Option.bind_some, ← nI_succ]
        rfl
      · simp only [lp_X10_snapShot_120, show (8 : Int32) ≤ nI 8 from Int32.le_refl _, if_true]
    refine Ok.bind s4 fun h3 ⟨mf3, r3⟩ => ?_
    have km3 : e_k h3 m = some (.inl 8) := by rw [mf3.k]; exact km2
    refine Ok.eq (v := nI u) (by rw [p_fI km3, mf3.I _ _ (by omega), e27]) (Ok.gI km3 (Ok.ret ?_))
    have X : MF (fun a j => (a = m ∧ j = 27) ∨ a = m + 6 ∨ a = m + 9) h (e_sI h3 m 27 (nI u + 1)) := ((mf1.tr (mf2.mono fun a j z => by omega)).tr (mf3.mono fun a j z => by omega)).sI _ (by omega)
    refine ⟨X, w.upd X (fun a j z => by unfold UWm; omega) rfl ?_ ?_ fun i hi => ?_⟩
    · have e2 : e_I (e_sI h3 m 27 (nI u + 1)) (m + 2) = e_I h (m + 2) := funext fun j => X.I _ _ (by omega)
      have e7 : e_J (e_sI h3 m 27 (nI u + 1)) (m + 7) = e_J h (m + 7) := funext fun j => X.J _ _ (by omega)
      have e10 : e_J (e_sI h3 m 27 (nI u + 1)) (m + 10) = e_J h (m + 10) := funext fun j => X.J _ _ (by omega)
      rw [e2, e7, e10]; exact w.c
    · rw [e_I_sI, if_pos ⟨rfl, rfl⟩, ← nI_succ, hu]; rfl
    · have hi : i < (if S.um = 8 then 7 else S.um) + 1 := hi
      rw [← hu] at hi
      by_cases q : i = u
      · have : S.keep.ud i = (S.c.m, S.c.bd) := by
          show (if i = (if S.um = 8 then 7 else S.um) then (S.c.m, S.c.bd) else if S.um = 8 then S.ud (i + 1) else S.ud i) = _
          rw [if_pos (by rw [← hu]; exact q)]
        rw [this, q]
        refine w.c.row.congr (fun k hk => ?_) (fun k hk => ?_)
        · rw [e_I_sI, if_neg (by omega), mf3.I _ _ (by omega), r2 k hk, mf1.I _ _ (by omega)]
        · rw [e_J_sI, r3 k hk, mf2.J _ _ (by omega), mf1.J _ _ (by omega)]
      · refine (r1 i (by omega)).congr (fun k hk => ?_) (fun k hk => ?_)
        · rw [e_I_sI, if_neg (by omega), mf3.I _ _ (by omega), mf2.I _ _ (by rintro ⟨-, k', h1', h2'⟩; omega)]
        · rw [e_J_sI, mf3.J _ _ (by rintro ⟨-, k', h1', h2'⟩; omega), mf2.J _ _ (by omega)]
end
