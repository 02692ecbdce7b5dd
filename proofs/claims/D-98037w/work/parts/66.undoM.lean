/-! PURE LAYER 27: undo and snap, the model's side -/
def St.vUndo (S : St) : Int32 := if S.um = 0 then -1 else nI (S.um - 1)
def St.undo (S : St) : St := if S.um = 0 then S else (St.mk S.tl S.tp S.fault S.why ((Im.mk S.c.d ((S.ud (S.um - 1)).1) ((S.ud (S.um - 1)).2) S.c.c S.c.lm S.c.la S.c.lb S.c.sn)) (S.um - 1) S.ud S.fm S.fo S.xm S.tx S.im)
def delB (bd : Nat → Bd) (k j : Nat) : Bd := if j < k then bd j else bd (j + 1)
def Im.snap (c : Im) (k : Nat) : Im := (Im.mk c.d (c.m - 1) (delB c.bd k) c.c c.lm c.la c.lb c.sn)
def St.vSnap (S : St) (v : Int32) : Int32 := if S.c.isB v = true then (S.c.snap v.toNatClampNeg).frees - S.c.frees else -1
def St.snap (S : St) (v : Int32) : St := if S.c.isB v = true then (St.mk S.keep.tl S.keep.tp S.keep.fault S.keep.why (S.c.snap v.toNatClampNeg) S.keep.um S.keep.ud S.keep.fm S.keep.fo S.keep.xm S.keep.tx S.keep.im) else S
section
variable {m F : Nat} {S : St}
theorem RM.undo {h : e_H} (w0 : RM m h S) (bn : Bn S) (hF : 3000 < F) : Ok (f_X10_undo F h m) fun z => z.1 = S.vUndo ∧ RM m z.2 S.undo ∧ MF (fun a _ => MA m a) h z.2 := by
  have w := w0.thr 0
  have x0 : MF (fun a _ => MA m a) h (e_sI h m 0 0) := (MF.rf _ h).sI _ (by unfold MA; omega)
  have h8 := bn.um
  unfold f_X10_undo St.vUndo St.undo
  refine Ok.gI w0.sh.1 (Ok.eq (v := nI S.um) (by rw [p_fI w.sh.1, w.um]) ?_)
  by_cases q : S.um = 0
  · rw [if_pos (show nI S.um = 0 by rw [q]; rfl), if_pos q, if_pos q]
    exact Ok.ret ⟨rfl, w, x0⟩
  · rw [if_neg (show ¬ nI S.um = 0 by rw [p_e0 (by omega)]; exact q), if_neg q, if_neg q]
    obtain ⟨u, hu⟩ : ∃ u, u = S.um - 1 := ⟨_, rfl⟩
    rw [← hu]
    refine Ok.eq (v := nI S.um) (by rw [p_fI w.sh.1, w.um]) (Ok.gI w.sh.1 ?_)
    rw [show nI S.um - 1 = nI u by rw [show (1 : Int32) = nI 1 from rfl, p_sub (by omega), hu]]
    obtain ⟨h1, hh1⟩ : ∃ z, z = e_sI (e_sI h m 0 0) m 27 (nI u) := ⟨_, rfl⟩
    rw [← hh1]
    have mf1 : MF (fun a j => a = m ∧ j = 27) (e_sI h m 0 0) h1 := by rw [hh1]; exact (MF.rf _ _).sI _ ⟨rfl, rfl⟩
    have u1 : e_I h1 m 27 = nI u := by rw [hh1, e_I_sI, if_pos ⟨rfl, rfl⟩]
    have c1 : Ok (lp_X10_undo_26 F m F 0 h1) fun h' => MF (fun a j => a = m + 2 ∧ ∃ k, k < 241 ∧ j = id k) h1 h' ∧ ∀ i, i < 241 → e_I h' (m + 2) (id i) = e_I h1 (m + 6) (241 * u + i) := by
      refine copyI (lp := lp_X10_undo_26 F m) (s := m + 6) (d := m + 2) (by omega) (fun k => 241 * u + k) id 241 (fun i j _ _ e => e) (fun f i h' hi mf => ?_) (fun f h' mf => ?_) (by omega)
      · have km : e_k h' m = some (.inl 8) := by rw [mf.k, mf1.k]; exact w.sh.1
        have e15 : e_fA h' m 8 15 = some (m + 2) := p_fA km (by rw [mf.R, mf1.R]; exact (w.sh.2 1 (15, 0, 512) rfl).1)
        have e19 : e_fA h' m 8 19 = some (m + 6) := p_fA km (by rw [mf.R, mf1.R]; exact (w.sh.2 5 (19, 0, 1928) rfl).1)
        have k2 : e_k h' (m + 2) = some (.inr (0, 512)) := by rw [mf.k, mf1.k]; exact w.kk 1 15 0 512 rfl
        have k6 : e_k h' (m + 6) = some (.inr (0, 1928)) := by rw [mf.k, mf1.k]; exact w.kk 5 19 0 1928 rfl
        have e27 : e_I h' m 27 = nI u := by rw [mf.I _ _ (by omega)]; exact u1
        have hle : ((241 : Int32) ≤ nI i) = False := by rw [show (241 : Int32) = nI 241 from rfl, p_le (by omega) (by omega)]; simp; omega
        have e1 : 241 * nI u + nI i = nI (241 * u + i) := by rw [show (241 : Int32) = nI 241 from rfl, p_mul, p_add]
        have ra : e_aI h' (m + 6) 0 (241 * nI u + nI i) = some (e_I h' (m + 6) (241 * u + i)) := by rw [e1, p_aI k6 (by omega) (by decide)]
        simp only [lp_X10_undo_26, hle, if_false, e15, e19, p_fI km, e27, ra, p_wI k2 (show i < 512 by omega) (by decide), Option.bind_some, ← nI_succ]
        rfl
      · simp only [lp_X10_undo_26, show (241 : Int32) ≤ nI 241 from Int32.le_refl _, if_true]
    refine Ok.bind c1 fun h2 ⟨mf2, r2⟩ => ?_
    have c2 : Ok (lp_X10_undo_62 F m F 0 h2) fun h' => MF (fun a j => a = m + 7 ∧ ∃ k, k < 8 ∧ j = id k) h2 h' ∧ ∀ i, i < 8 → e_J h' (m + 7) (id i) = e_J h2 (m + 9) (8 * u + i) := by
      refine copyJ (lp := lp_X10_undo_62 F m) (s := m + 9) (d := m + 7) (by omega) (fun k => 8 * u + k) id 8 (fun i j _ _ e => e) (fun f i h' hi mf => ?_) (fun f h' mf => ?_) (by omega)
      · have km : e_k h' m = some (.inl 8) := by rw [mf.k, mf2.k, mf1.k]; exact w.sh.1
        have e20 : e_fA h' m 8 20 = some (m + 7) := p_fA km (by rw [mf.R, mf2.R, mf1.R]; exact (w.sh.2 6 (20, 3, 8) rfl).1)
        have e22 : e_fA h' m 8 22 = some (m + 9) := p_fA km (by rw [mf.R, mf2.R, mf1.R]; exact (w.sh.2 8 (22, 3, 64) rfl).1)
        have k7 : e_k h' (m + 7) = some (.inr (3, 8)) := by rw [mf.k, mf2.k, mf1.k]; exact w.kk 6 20 3 8 rfl
        have k9 : e_k h' (m + 9) = some (.inr (3, 64)) := by rw [mf.k, mf2.k, mf1.k]; exact w.kk 8 22 3 64 rfl
        have e27 : e_I h' m 27 = nI u := by rw [mf.I _ _ (by omega), mf2.I _ _ (by omega)]; exact u1
        have hle : ((8 : Int32) ≤ nI i) = False := by rw [show (8 : Int32) = nI 8 from rfl, p_le (by omega) (by omega)]; simp; omega
        have e1 : 8 * nI u + nI i = nI (8 * u + i) := by rw [show (8 : Int32) = nI 8 from rfl, p_mul, p_add]
        simp only [lp_X10_undo_62, hle, if_false, e20, e22, p_fI km, e27, e1, p_aJ k9 (show 8 * u + i < 64 by omega) (by decide), p_wJ k7 hi (by decide), Option.bind_some, ← nI_succ]
        rfl
      · simp only [lp_X10_undo_62, show (8 : Int32) ≤ nI 8 from Int32.le_refl _, if_true]
    refine Ok.bind c2 fun h3 ⟨mf3, r3⟩ => ?_
    have X : MF (fun a j => (a = m ∧ j = 27) ∨ (a = m + 2 ∧ j < 241) ∨ a = m + 7) (e_sI h m 0 0) h3 := ((mf1.mono fun a j z => Or.inl z).tr (mf2.mono fun a j z => by obtain ⟨z1, k, z2, z3⟩ := z; simp only [id] at z3; omega)).tr (mf3.mono fun a j z => by have := z.1; omega)
    have e27 : e_I h3 m 27 = nI u := by rw [mf3.I _ _ (by omega), mf2.I _ _ (by omega)]; exact u1
    refine Ok.eq (v := nI u) (by rw [p_fI (by rw [X.k]; exact w.sh.1), e27]) (Ok.ret ⟨rfl, ?_, x0.tr (X.mono fun a j z => by unfold MA; omega)⟩)
    have e6 : e_I h3 (m + 6) = e_I (e_sI h m 0 0) (m + 6) := funext fun j => X.I _ _ (by omega)
    have e9 : e_J h3 (m + 9) = e_J (e_sI h m 0 0) (m + 9) := funext fun j => X.J _ _ (by omega)
    have e10 : e_J h3 (m + 10) = e_J (e_sI h m 0 0) (m + 10) := funext fun j => X.J _ _ (by omega)
    refine w.upd X (fun a j z => by unfold UWm; omega) rfl ?_ e27 fun i hi => ?_
    · rw [e10]
      refine w.c.row' (fun j h1 h2 => X.I _ _ (by omega)) ((w.ud u (by omega)).congr (fun k hk => ?_) (fun k hk => ?_))
      · rw [mf3.I _ _ (by omega), show e_I h2 (m + 2) k = e_I h2 (m + 2) (id k) from rfl, r2 k hk, mf1.I _ _ (by omega)]
      · rw [show e_J h3 (m + 7) k = e_J h3 (m + 7) (id k) from rfl, r3 k hk, mf2.J _ _ (by omega), mf1.J _ _ (by omega)]
    · rw [e6, e9]
      have hi : i < u := hi
      exact w.ud i (by omega)
theorem snapBand {h : e_H} (w : RM m h S) {h1 : e_H} (mf : MF (fun a j => (a = m + 2 ∧ 105 ≤ j ∧ j < 241) ∨ a = m + 7) h h1) {j : Nat} (hj : j < 7) (hF : 3000 < F) :
    Ok (lp_X10_snap_39 F m (nI j) F 0 h1) fun h' => MF (fun a q => a = m + 2 ∧ 105 + 17 * j ≤ q ∧ q < 105 + 17 * j + 17) h1 h' ∧ ∀ i, i < 17 → e_I h' (m + 2) (105 + 17 * j + i) = e_I h1 (m + 2) (105 + 17 * (j + 1) + i) := by
  refine Ok.loopC2 (lp := lp_X10_snap_39 F m (nI j)) (fun i x h' => x = nI i ∧ MF (fun a q => a = m + 2 ∧ 105 + 17 * j ≤ q ∧ q < 105 + 17 * j + 17) h1 h' ∧ ∀ l, l < i → e_I h' (m + 2) (105 + 17 * j + l) = e_I h1 (m + 2) (105 + 17 * (j + 1) + l)) 17 (fun i x h' f hi ⟨e, mf', r⟩ nx => ?_) (fun x h' f ⟨e, mf', r⟩ => ?_) (by omega) ⟨rfl, MF.rf _ h1, fun l hl => by omega⟩
  · subst e
    have km : e_k h' m = some (.inl 8) := by rw [mf'.k, mf.k]; exact w.sh.1
    have e15 : e_fA h' m 8 15 = some (m + 2) := p_fA km (by rw [mf'.R, mf.R]; exact (w.sh.2 1 (15, 0, 512) rfl).1)
    have k2 : e_k h' (m + 2) = some (.inr (0, 512)) := by rw [mf'.k, mf.k]; exact w.kk 1 15 0 512 rfl
    have hle : ((17 : Int32) ≤ nI i) = False := by rw [show (17 : Int32) = nI 17 from rfl, p_le (by omega) (by omega)]; simp; omega
    have e1 : 105 + 17 * nI j + 17 + nI i = nI (105 + 17 * j + 17 + i) := by rw [i_rn, show (17 : Int32) = nI 17 from rfl, p_add, p_add]
    have e2 : 105 + 17 * nI j + nI i = nI (105 + 17 * j + i) := by rw [i_rn, p_add]
    have ra : e_aI h' (m + 2) 0 (105 + 17 * nI j + 17 + nI i) = some (e_I h1 (m + 2) (105 + 17 * (j + 1) + i)) := by
      rw [e1, p_aI k2 (by omega) (by decide), mf'.I _ _ (by omega), show 105 + 17 * j + 17 + i = 105 + 17 * (j + 1) + i by omega]
    have kw := p_wI' k2 e2 (by omega) (by decide) (e_I h1 (m + 2) (105 + 17 * (j + 1) + i))
    simp only [lp_X10_snap_39, hle, if_false, e15, ra, kw, Option.bind_some, ← nI_succ]
    refine nx _ _ ⟨rfl, mf'.sI _ (by omega), fun l hl => ?_⟩
    rw [e_I_sI]
    by_cases z : l = i
    · rw [if_pos ⟨rfl, by omega⟩, z]
    · rw [if_neg (by omega)]; exact r l (by omega)
  · subst e
    simp only [lp_X10_snap_39, show (17 : Int32) ≤ nI 17 from Int32.le_refl _, if_true]
    exact Ok.ret ⟨mf', r⟩
theorem RM.snap {h : e_H} (w0 : RM m h S) (bn : Bn S) (hF : 3000 < F) (v : Int32) : Ok (f_X10_snap F h m v) fun z => z.1 = S.vSnap v ∧ RM m z.2 (S.snap v) ∧ MF (fun a _ => MA m a) h z.2 := by
  have w := w0.thr 0
  have x0 : MF (fun a _ => MA m a) h (e_sI h m 0 0) := (MF.rf _ h).sI _ (by unfold MA; omega)
  have m8 := w.view.m8
  unfold f_X10_snap St.vSnap St.snap
  refine Ok.gI w0.sh.1 ?_
  simp only [w.view.o.is, w.view.isBand, Option.bind_some]
  cases q : S.c.isB v with
  | false => exact Ok.ret ⟨rfl, w, x0⟩
  | true =>
    obtain ⟨k, rfl, hk⟩ := Im.isB_of q m8
    simp only [b2i, if_true, show ¬ (1 : Int32) = 0 by decide, if_false, w.view.freeMany (show 100 < F by omega), Option.bind_some, nI_clamp (show k < 2 ^ 31 by omega)]
    refine Ok.bind (snapShot w bn hF) fun h1 ⟨mf1, w1⟩ => ?_
    have m8' : S.keep.c.m ≤ 8 := m8
    have row1 : MRow (e_I h1 (m + 2)) (e_J h1 (m + 7)) S.c.d S.c.m S.c.bd := w1.c.row
    refine Ok.bind (R := fun h2 => MF (fun a j => (a = m + 2 ∧ 105 ≤ j ∧ j < 241) ∨ a = m + 7) h1 h2 ∧ (∀ i, i < S.c.m - 1 → MBd (e_I h2 (m + 2)) i (delB S.c.bd k i) ∧ e_J h2 (m + 7) i = e27 (delB S.c.bd k i).nm)) ?_ fun h2 ⟨mf2, r2⟩ => ?_
    · refine Ok.loopC2 (lp := lp_X10_snap_26 F m) (fun i x h' => x = nI (k + i) ∧ MF (fun a j => (a = m + 2 ∧ 105 ≤ j ∧ j < 241) ∨ a = m + 7) h1 h' ∧ (∀ l, l < k + i → MBd (e_I h' (m + 2)) l (delB S.c.bd k l) ∧ e_J h' (m + 7) l = e27 (delB S.c.bd k l).nm) ∧ ∀ l, k + i ≤ l → l < S.c.m → MBd (e_I h' (m + 2)) l (S.c.bd l) ∧ e_J h' (m + 7) l = e27 (S.c.bd l).nm) (S.c.m - 1 - k) (fun i x h' f hi ⟨e, mf, r, r'⟩ nx => ?_) (fun x h' f ⟨e, mf, r, r'⟩ => ?_) (by omega) ⟨rfl, MF.rf _ h1, fun l hl => ?_, fun l _ hl => ⟨row1.bb l hl, row1.nm l hl⟩⟩
      · subst e
        have km : e_k h' m = some (.inl 8) := by rw [mf.k]; exact w1.sh.1
        have e15 : e_fA h' m 8 15 = some (m + 2) := p_fA km (by rw [mf.R]; exact (w1.sh.2 1 (15, 0, 512) rfl).1)
        have k2 : e_k h' (m + 2) = some (.inr (0, 512)) := by rw [mf.k]; exact w1.kk 1 15 0 512 rfl
        have e4 : e_aI h' (m + 2) 0 4 = some (nI S.c.m) := by rw [show (4 : Int32) = nI 4 from rfl, p_aI k2 (by decide) (by decide), mf.I _ _ (by omega)]; exact congrArg some row1.mm
        have eb : f_X10_bands h' m = some (nI S.c.m) := by simp only [f_X10_bands, e15, e4, Option.bind_some]
        have hle : (nI S.c.m - 1 ≤ nI (k + i)) = False := by rw [show (1 : Int32) = nI 1 from rfl, p_sub (by omega), p_le (by omega) (by omega)]; simp; omega
        obtain ⟨h3, e3, mf3, r3⟩ := snapBand w1 mf (j := k + i) (by omega) hF
        have km3 : e_k h3 m = some (.inl 8) := by rw [mf3.k]; exact km
        have e20 : e_fA h3 m 8 20 = some (m + 7) := p_fA km3 (by rw [mf3.R, mf.R]; exact (w1.sh.2 6 (20, 3, 8) rfl).1)
        have k7 : e_k h3 (m + 7) = some (.inr (3, 8)) := by rw [mf3.k, mf.k]; exact w1.kk 6 20 3 8 rfl
        have e0 : e_J h3 (m + 7) = e_J h' (m + 7) := funext fun j => mf3.J _ _ (by omega)
        have es : nI (k + i) + 1 = nI (k + (i + 1)) := by rw [← nI_succ]; rfl
        simp only [lp_X10_snap_26, p_is km, eb, Option.bind_some, hle, if_false, e3, e20, es, p_aJ k7 (show k + (i + 1) < 8 by omega) (by decide), p_wJ k7 (show k + i < 8 by omega) (by decide), e0]
        refine nx _ _ ⟨rfl, (mf.tr (mf3.mono fun a j z => by omega)).sJ _ (Or.inr rfl), fun l hl => ?_, fun l hl1 hl2 => ?_⟩
        · show MBd (e_I h3 (m + 2)) l _ ∧ _
          by_cases z : l = k + i
          · subst z
            have hd : delB S.c.bd k (k + i) = S.c.bd (k + i + 1) := by unfold delB; rw [if_neg (by omega)]
            rw [hd]
            refine ⟨(r' (k + i + 1) (by omega) (by omega)).1.congr fun j hj => r3 j hj, ?_⟩
            rw [e_J_sJ, if_pos ⟨rfl, rfl⟩]
            exact (r' (k + i + 1) (by omega) (by omega)).2
          · refine ⟨(r l (by omega)).1.congr fun j hj => mf3.I _ _ (by omega), ?_⟩
            rw [e_J_sJ, if_neg (fun y => z y.2), e0]
            exact (r l (by omega)).2
        · show MBd (e_I h3 (m + 2)) l _ ∧ _
          refine ⟨(r' l (by omega) hl2).1.congr fun j hj => mf3.I _ _ (by omega), ?_⟩
          rw [e_J_sJ, if_neg (by omega), e0]
          exact (r' l (by omega) hl2).2
      · subst e
        have km : e_k h' m = some (.inl 8) := by rw [mf.k]; exact w1.sh.1
        have e15 : e_fA h' m 8 15 = some (m + 2) := p_fA km (by rw [mf.R]; exact (w1.sh.2 1 (15, 0, 512) rfl).1)
        have k2 : e_k h' (m + 2) = some (.inr (0, 512)) := by rw [mf.k]; exact w1.kk 1 15 0 512 rfl
        have e4 : e_aI h' (m + 2) 0 4 = some (nI S.c.m) := by rw [show (4 : Int32) = nI 4 from rfl, p_aI k2 (by decide) (by decide), mf.I _ _ (by omega)]; exact congrArg some row1.mm
        have eb : f_X10_bands h' m = some (nI S.c.m) := by simp only [f_X10_bands, e15, e4, Option.bind_some]
        have hle : nI S.c.m - 1 ≤ nI (k + (S.c.m - 1 - k)) := by rw [show (1 : Int32) = nI 1 from rfl, p_sub (by omega), p_le (by omega) (by omega)]; omega
        simp only [lp_X10_snap_26, p_is km, eb, Option.bind_some, hle, if_true]
        exact Ok.ret ⟨mf, fun l hl => r l (by omega)⟩
      · have hd : delB S.c.bd k l = S.c.bd l := by unfold delB; rw [if_pos (by omega)]
        rw [hd]
        exact ⟨row1.bb l (by omega), row1.nm l (by omega)⟩
    · have km : e_k h2 m = some (.inl 8) := by rw [mf2.k]; exact w1.sh.1
      have e15 : e_fA h2 m 8 15 = some (m + 2) := p_fA km (by rw [mf2.R]; exact (w1.sh.2 1 (15, 0, 512) rfl).1)
      have k2 : e_k h2 (m + 2) = some (.inr (0, 512)) := by rw [mf2.k]; exact w1.kk 1 15 0 512 rfl
      have e4 : e_aI h2 (m + 2) 0 4 = some (nI S.c.m) := by rw [show (4 : Int32) = nI 4 from rfl, p_aI k2 (by decide) (by decide), mf2.I _ _ (by omega)]; exact congrArg some row1.mm
      refine Ok.eq e15 (Ok.eq e4 (Ok.eq (p_wI' k2 (rfl : (4 : Int32) = nI 4) (by decide) (by decide) _) ?_))
      rw [show nI S.c.m - 1 = nI (S.c.m - 1) by rw [show (1 : Int32) = nI 1 from rfl, p_sub (by omega)]]
      obtain ⟨h3, hh3⟩ : ∃ z, z = e_sI h2 (m + 2) 4 (nI (S.c.m - 1)) := ⟨_, rfl⟩
      rw [← hh3]
      have mf3 : MF (fun a j => (a = m + 2 ∧ (j = 4 ∨ (105 ≤ j ∧ j < 241))) ∨ a = m + 7) h1 h3 := by rw [hh3]; exact (mf2.mono fun a j z => by omega).sI _ (by omega)
      have w3 : RM m h3 (St.mk S.keep.tl S.keep.tp S.keep.fault S.keep.why (S.c.snap k) S.keep.um S.keep.ud S.keep.fm S.keep.fo S.keep.xm S.keep.tx S.keep.im) := by
        refine w1.upd mf3 (fun a j z => by unfold UWm; omega) rfl ?_ ?_ fun i hi => ?_
        · have e10 : e_J h3 (m + 10) = e_J h1 (m + 10) := funext fun j => mf3.J _ _ (by omega)
          rw [e10]
          have e3 : ∀ j, j ≠ 4 → e_I h3 (m + 2) j = e_I h2 (m + 2) j := fun j hj => by rw [hh3, e_I_sI, if_neg (fun y => hj y.2)]
          refine w1.c.row' (fun j h1 h2 => mf3.I _ _ (by omega)) ⟨?_, by omega, by rw [hh3, e_I_sI, if_pos ⟨rfl, rfl⟩], fun i hi => ?_, fun i hi => ?_⟩
          · refine ⟨row1.hd.w10, row1.hd.h10, ?_, ?_, ?_, ?_, fun i hi => ?_⟩
            · rw [mf3.I _ _ (by omega)]; exact row1.hd.w
            · rw [mf3.I _ _ (by omega)]; exact row1.hd.hh
            · rw [mf3.I _ _ (by omega)]; exact row1.hd.bell
            · rw [mf3.I _ _ (by omega)]; exact row1.hd.outs
            · rw [mf3.I _ _ (by omega)]; exact row1.hd.out i hi
          · exact (r2 i hi).1.congr fun j hj => e3 _ (by omega)
          · rw [hh3]; exact (r2 i hi).2
        · rw [mf3.I _ _ (by omega)]; exact w1.um
        · have e6 : e_I h3 (m + 6) = e_I h1 (m + 6) := funext fun j => mf3.I _ _ (by omega)
          have e9 : e_J h3 (m + 9) = e_J h1 (m + 9) := funext fun j => mf3.J _ _ (by omega)
          rw [e6, e9]; exact w1.ud i hi
      refine Ok.is w3.sh.1 (Ok.eq (w3.view.freeMany (show 100 < F by omega)) (Ok.ret ⟨rfl, w3, (x0.tr (mf1.mono fun a j z => by unfold MA; omega)).tr (mf3.mono fun a j z => by unfold MA; omega)⟩))
end
