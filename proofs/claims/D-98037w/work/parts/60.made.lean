/-! PURE LAYER 21: bands made by the component -/
def wfH (h : e_H) : Prop := ∀ a, e_n h ≤ a → e_k h a = none
theorem wfH.mk {h : e_H} (w : wfH h) (d : e_K) (n : Nat) : wfH (e_mk h d n) := by
  intro a ha
  rw [e_n_mk] at ha
  rw [e_k_mk, if_neg (by omega)]
  exact w a (by omega)
theorem wfH.of {h h' : e_H} (w : wfH h) (n : e_n h' = e_n h) (k : e_k h' = e_k h) : wfH h' := fun a ha => by rw [k]; exact w a (by omega)
/-- the band without its corners from place n on -/
def Bd.none : Bd := Bd.mk 0 (fun _ => 0) (fun _ => 0) []
def Bd.snoc (P : Bd) (u v : Int32) : Bd := Bd.mk (P.n + 1) (fun i => if i = P.n then u else P.x i) (fun i => if i = P.n then v else P.y i) P.nm
theorem Bd.snoc_n (P : Bd) (u v : Int32) : (P.snoc u v).n = P.n + 1 := rfl
theorem Bd.snoc_x (P : Bd) (u v : Int32) (i : Nat) : (P.snoc u v).x i = if i = P.n then u else P.x i := rfl
theorem Bd.snoc_y (P : Bd) (u v : Int32) (i : Nat) : (P.snoc u v).y i = if i = P.n then v else P.y i := rfl
theorem Bd.snoc_nm (P : Bd) (u v : Int32) : (P.snoc u v).nm = P.nm := rfl
/-- a new band: its cell and its arrays, in a row -/
theorem newBand {α : Type} {h : e_H} (wf : wfH h) {Q : α → Prop} {Y : Nat → e_H → Option α}
    (k : ∀ h', IsBd h' (e_n h) (e_n h + 1) (e_n h + 2) Bd.none → e_J h' (e_n h) 3 = 0 → Fr (fun _ _ => False) h h' → wfH h' → e_n h' = e_n h + 3 → e_u h' = e_u h + 22 → Ok (Y (e_n h) h') Q) :
    Ok (e_mkb h (.inl 6) 4 (fun x0 h0 => Option.bind (f_X8_init h0 x0) (fun h4 => Y x0 h4))) Q := by
  refine Ok.mkb ?_
  have k1 : e_k (e_mk (e_mk h (.inl 6) 4) (.inr (0, 9)) 9) (e_n h) = some (.inl 6) := by
    rw [e_k_mk, if_neg (by rw [e_n_mk]; omega), e_k_mk, if_pos rfl]
  have k2 : e_k (e_mk (e_sR (e_mk (e_mk h (.inl 6) 4) (.inr (0, 9)) 9) (e_n h) 0 (some (e_n h + 1))) (.inr (0, 9)) 9) (e_n h) = some (.inl 6) := by
    rw [e_k_mk, if_neg (by rw [e_n_sR, e_n_mk, e_n_mk]; omega), e_k_sR]; exact k1
  have e : f_X8_init (e_mk h (.inl 6) 4) (e_n h) = some (e_sR (e_mk (e_sR (e_mk (e_mk h (.inl 6) 4) (.inr (0, 9)) 9) (e_n h) 0 (some (e_n h + 1))) (.inr (0, 9)) 9) (e_n h) 1 (some (e_n h + 2))) := by
    unfold f_X8_init
    have n9 : e_nat 9 = some 9 := rfl
    rw [n9]
    simp only [Option.bind_some, e_mkb, e_n_mk]
    rw [p_gR k1]
    simp only [Option.bind_some, e_n_sR, e_n_mk]
    rw [p_gR k2]
    rfl
  refine Ok.eq e (k _ ?_ ?_ ?_ ?_ rfl rfl)
  · refine ⟨k2, ?_, ?_, ?_, ?_, ?_, by show (0 : Nat) ≤ 8; omega, fun i hi => absurd hi (Nat.not_lt_zero i), fun i hi => absurd hi (Nat.not_lt_zero i)⟩
    · rw [e_R_sR, if_neg (by omega), e_R_mk, if_neg (by rw [e_n_sR, e_n_mk, e_n_mk]; omega), e_R_sR, if_pos ⟨rfl, rfl⟩]
    · rw [e_R_sR, if_pos ⟨rfl, rfl⟩]
    · rw [e_k_sR, e_k_mk, if_neg (by rw [e_n_sR, e_n_mk, e_n_mk]; omega), e_k_sR, e_k_mk, if_pos (by rw [e_n_mk])]
    · rw [e_k_sR, e_k_mk, if_pos (by rw [e_n_sR, e_n_mk, e_n_mk])]
    · rw [e_I_sR, e_I_mk, if_neg (by rw [e_n_sR, e_n_mk, e_n_mk]; omega), e_I_sR, e_I_mk, if_neg (by rw [e_n_mk]; omega), e_I_mk, if_pos rfl]; rfl
  · rw [e_J_sR, e_J_mk, if_neg (by rw [e_n_sR, e_n_mk, e_n_mk]; omega), e_J_sR, e_J_mk, if_neg (by rw [e_n_mk]; omega), e_J_mk, if_pos rfl]
  · exact (((((Fr.rf _ h).mkN _ _).mkN _ _).sR _ (Or.inl (Nat.le_refl _))).mkN _ _).sR _ (Or.inl (Nat.le_refl _))
  · exact (((wf.mk _ _).mk _ _).of (h' := e_sR _ _ _ _) rfl rfl |>.mk _ _).of (h' := e_sR _ _ _ _) rfl rfl
/-- a corner more -/
theorem IsBd.add {h : e_H} {a xs ys : Nat} {P : Bd} (b : IsBd h a xs ys P) (h8 : P.n < 8) (n1 : xs ≠ ys) (u v : Int32) :
    Ok (f_X8_add h a u v) fun h' => IsBd h' a xs ys (P.snoc u v) ∧ MF (fun q j => (q = a ∧ j = 2) ∨ q = xs ∨ q = ys) h h' := by
  have na : a ≠ xs := fun e => by have := b.k; rw [e, b.kx] at this; cases this
  have nb : a ≠ ys := fun e => by have := b.k; rw [e, b.ky] at this; cases this
  have e1 : e_fI (e_sI h xs P.n u) a 6 2 = some (nI P.n) := by rw [p_fI (show e_k (e_sI h xs P.n u) a = _ from b.k), e_I_sI, if_neg (fun z => na z.1), b.n]
  have e2 : e_fI (e_sI (e_sI h xs P.n u) ys P.n v) a 6 2 = some (nI P.n) := by rw [p_fI (show e_k (e_sI (e_sI h xs P.n u) ys P.n v) a = _ from b.k), e_I_sI, if_neg (fun z => nb z.1), e_I_sI, if_neg (fun z => na z.1), b.n]
  refine ⟨e_sI (e_sI (e_sI h xs P.n u) ys P.n v) a 2 (nI (P.n + 1)), ?_, ?_, ?_⟩
  · unfold f_X8_add
    simp only [b.fx, b.fn, Option.bind_some]
    rw [p_wI b.kx (j := P.n) (by omega) (by decide)]
    simp only [Option.bind_some]
    rw [p_fA (show e_k (e_sI h xs P.n u) a = _ from b.k) (show e_R (e_sI h xs P.n u) a 1 = some ys from b.ry), e1]
    simp only [Option.bind_some]
    rw [p_wI (show e_k (e_sI h xs P.n u) ys = _ from b.ky) (j := P.n) (by omega) (by decide)]
    simp only [Option.bind_some, e2]
    rw [p_gI (show e_k (e_sI (e_sI h xs P.n u) ys P.n v) a = _ from b.k), ← nI_succ]
    rfl
  · refine ⟨b.k, b.rx, b.ry, b.kx, b.ky, ?_, by rw [Bd.snoc_n]; omega, fun i hi => ?_, fun i hi => ?_⟩
    · rw [e_I_sI, if_pos ⟨rfl, rfl⟩]; rfl
    · rw [Bd.snoc_n] at hi
      rw [e_I_sI, if_neg (fun z => na z.1.symm), e_I_sI, if_neg (fun z => n1 z.1), e_I_sI, Bd.snoc_x]
      by_cases q : i = P.n
      · rw [if_pos ⟨rfl, q⟩, if_pos q]
      · rw [if_neg (fun z => q z.2), if_neg q, b.x i (by omega)]
    · rw [Bd.snoc_n] at hi
      rw [e_I_sI, if_neg (fun z => nb z.1.symm), e_I_sI, Bd.snoc_y]
      by_cases q : i = P.n
      · rw [if_pos ⟨rfl, q⟩, if_pos q]
      · rw [if_neg (fun z => q z.2), e_I_sI, if_neg (fun z => n1 z.1.symm), if_neg q, b.y i (by omega)]
  · exact (((MF.rf _ h).sI _ (Or.inr (Or.inl rfl))).sI _ (Or.inr (Or.inr rfl))).sI _ (Or.inl ⟨rfl, rfl⟩)
/-- another band with the same corners -/
theorem IsBd.same {h : e_H} {a xs ys : Nat} {P Q : Bd} (b : IsBd h a xs ys P) (hn : Q.n = P.n) (hx : ∀ i, i < P.n → Q.x i = P.x i) (hy : ∀ i, i < P.n → Q.y i = P.y i) : IsBd h a xs ys Q :=
  ⟨b.k, b.rx, b.ry, b.kx, b.ky, by rw [hn]; exact b.n, by rw [hn]; exact b.le, fun i hi => by rw [b.x i (by omega), hx i (by omega)], fun i hi => by rw [b.y i (by omega), hy i (by omega)]⟩
def turnB (P : Bd) (w : Nat) : Bd := Bd.mk P.n (fun i => tX w (P.x i) (P.y i)) (fun i => tY w (P.x i) (P.y i)) []
theorem turnB_n (P : Bd) (w : Nat) : (turnB P w).n = P.n := rfl
theorem turnB_x (P : Bd) (w i : Nat) : (turnB P w).x i = tX w (P.x i) (P.y i) := rfl
theorem turnB_y (P : Bd) (w i : Nat) : (turnB P w).y i = tY w (P.x i) (P.y i) := rfl
/-- the first corners of a band -/
def Bd.upTo (P : Bd) (i : Nat) : Bd := Bd.mk i P.x P.y P.nm
theorem Bd.upTo_n (P : Bd) (i : Nat) : (P.upTo i).n = i := rfl
theorem Bd.upTo_x (P : Bd) (i j : Nat) : (P.upTo i).x j = P.x j := rfl
theorem Bd.upTo_y (P : Bd) (i j : Nat) : (P.upTo i).y j = P.y j := rfl
theorem IsBd.upTo_s {h : e_H} {a xs ys : Nat} {P : Bd} {i : Nat} {u v : Int32} (b : IsBd h a xs ys ((P.upTo i).snoc u v)) (hu : u = P.x i) (hv : v = P.y i) : IsBd h a xs ys (P.upTo (i + 1)) := by
  refine b.same rfl (fun j hj => ?_) (fun j hj => ?_)
  · rw [Bd.snoc_x, Bd.upTo_x, Bd.upTo_n, Bd.upTo_x]; split
    · rename_i q; rw [q, hu]
    · rfl
  · rw [Bd.snoc_y, Bd.upTo_y, Bd.upTo_n, Bd.upTo_y]; split
    · rename_i q; rw [q, hv]
    · rfl
theorem IsBd.lt {h : e_H} {a xs ys : Nat} {P : Bd} (b : IsBd h a xs ys P) (wf : wfH h) : a < e_n h ∧ xs < e_n h ∧ ys < e_n h :=
  ⟨kne wf (by rw [b.k]; simp), kne wf (by rw [b.kx]; simp), kne wf (by rw [b.ky]; simp)⟩
theorem IsBd.fr {W : Nat → Nat → Prop} {h h' : e_H} {a xs ys : Nat} {P : Bd} (g : IsBd h a xs ys P) (wf : wfH h) (x : Fr W h h') (h1 : ∀ j, ¬ W a j) (h2 : ∀ j, ¬ W xs j) (h3 : ∀ j, ¬ W ys j) : IsBd h' a xs ys P := by
  obtain ⟨l1, l2, l3⟩ := g.lt wf
  exact g.ev (fun c hc => x.k c (kne wf hc)) (x.I a 2 l1 (h1 2)) (x.R a 0 l1 (h1 0)) (x.R a 1 l1 (h1 1)) (funext fun j => x.I xs j l2 (h2 j)) (funext fun j => x.I ys j l3 (h3 j))
theorem turned {h : e_H} {F a xs ys : Nat} {P : Bd} (g : IsBd h a xs ys P) (wf : wfH h) (hF : 20 < F) {w : Nat} (hw : w < 8) :
    Ok (f_X1_turned F h a (nI w)) fun z => z.1 = e_n h ∧ IsBd z.2 (e_n h) (e_n h + 1) (e_n h + 2) (turnB P w) ∧ Fr (fun _ _ => False) h z.2 ∧ wfH z.2 ∧ e_n z.2 = e_n h + 3 ∧ e_u z.2 = e_u h + 22 := by
  have hle := g.le
  obtain ⟨l1, l2, l3⟩ := g.lt wf
  unfold f_X1_turned
  refine newBand wf fun h4 b4 j4 x4 wf4 n4 u4 => ?_
  refine Ok.bind (R := fun h' => IsBd h' (e_n h) (e_n h + 1) (e_n h + 2) ((turnB P w).upTo P.n) ∧ Fr (fun _ _ => False) h h' ∧ wfH h' ∧ e_n h' = e_n h + 3 ∧ e_u h' = e_u h + 22) ?_ fun h' ⟨r1, r2, r3, r4, r5⟩ => Ok.ret ⟨rfl, r1.same rfl (fun _ _ => rfl) (fun _ _ => rfl), r2, r3, r4, r5⟩
  refine Ok.loopC2 (lp := lp_X1_turned_10 F a (nI w) (e_n h)) (fun i x h' => x = nI i ∧ IsBd h' (e_n h) (e_n h + 1) (e_n h + 2) ((turnB P w).upTo i) ∧ Fr (fun _ _ => False) h h' ∧ wfH h' ∧ e_n h' = e_n h + 3 ∧ e_u h' = e_u h + 22) P.n (fun i x h' f hi ⟨e, b', x', wf', n', u'⟩ nx => ?_) (fun x h' f ⟨e, b', x', wf', n', u'⟩ => ?_) (by omega) ⟨rfl, b4.same rfl (fun i hi => absurd hi (Nat.not_lt_zero i)) (fun i hi => absurd hi (Nat.not_lt_zero i)), x4, wf4, n4, u4⟩
  · subst e
    have g' := g.fr wf x' (fun _ => id) (fun _ => id) (fun _ => id)
    simp only [lp_X1_turned_10, g'.fn, g'.nle hi, if_false, g'.fx, g'.fy, g'.ax hi, g'.ay hi, f_tX hw, f_tY hw, b'.is, Option.bind_some]
    refine Ok.bind (b'.add (by rw [Bd.upTo_n]; omega) (by omega) _ _) fun h1 ⟨b1, m1⟩ => ?_
    rw [← nI_succ]
    refine nx _ _ ⟨rfl, b1.upTo_s rfl rfl, ?_, wf'.of m1.n m1.k, by rw [m1.n, n'], by rw [m1.u, u']⟩
    refine ⟨by rw [m1.n]; exact x'.n, by rw [m1.u]; exact x'.u, fun q hq => by rw [m1.k]; exact x'.k q hq, fun q j hq z => ?_, fun q j hq z => ?_, fun q j hq z => by rw [m1.R]; exact x'.R q j hq z⟩
    · rw [m1.I q j (by omega)]; exact x'.I q j hq z
    · rw [m1.J q j (by omega)]; exact x'.J q j hq z
  · subst e
    have g' := g.fr wf x' (fun _ => id) (fun _ => id) (fun _ => id)
    simp only [lp_X1_turned_10, g'.fn, Option.bind_some, Int32.le_refl, if_true]
    exact Ok.ret ⟨b', x', wf', n', u'⟩
theorem ixC_same (P : Bd) (w k j : Nat) : rowC (turnB P w) 0 k j = rowC P w k j := rfl
theorem setC_turn (P : Bd) (w : Nat) (s : Nat → Int32) : setW P w s ↔ setC (turnB P w) 1 0 s := by
  constructor
  · rintro ⟨k, hk, rfl⟩
    exact ⟨0, k, hk, Or.inl (by decide), rfl⟩
  · rintro ⟨v, k, hk, hv, rfl⟩
    have : v = 0 := by omega
    subst this
    exact ⟨k, hk, rfl⟩
/-! the component compares -/
def SW3 (b a j : Nat) : Prop := b + 15 ≤ a ∧ a ≤ b + 17
theorem SW3_CW {b a j : Nat} (h : SW3 b a j) : CW b a j := by unfold SW3 at h; unfold CW; omega
theorem SW_SW3 {b a j : Nat} (h : SW b a j) : SW3 b a j := by unfold SW at h; unfold SW3; omega
section
variable {A : Nat → Nat} {b F : Nat} {S : St} {a xs ys a2 xs2 ys2 : Nat} {P Q : Bd}
theorem areAlikeC {h : e_H} (w : RC A b h S) (g : IsBd h a xs ys P) (f1 : ∀ j, ¬ SW3 b a j) (f2 : ∀ j, ¬ SW3 b xs j) (f3 : ∀ j, ¬ SW3 b ys j) (g2 : IsBd h a2 xs2 ys2 Q) (f4 : ∀ j, ¬ SW3 b a2 j) (f5 : ∀ j, ¬ SW3 b xs2 j) (f6 : ∀ j, ¬ SW3 b ys2 j) (h0 : 0 < P.n) (hF : 20 < F) {how : Nat} (hh : how < 3) :
    Ok (f_X1_areAlike F h b a a2 (nI how)) fun z => MF (SW3 b) h z.2 ∧ z.1 = pI (alikeP P Q how) := by
  have hle := g.le
  have hle2 := g2.le
  unfold f_X1_areAlike
  refine Ok.eq g.fn (Ok.eq g2.fn (Ok.ite (fun hc => ?_) (fun hc => ?_)))
  · have hn : P.n = Q.n := p_inj (by omega) (by omega) hc
    refine Ok.is w.k0 (Ok.bind (settle w g (fun j z => f1 j (SW_SW3 z)) (fun j z => f2 j (SW_SW3 z)) (fun j z => f3 j (SW_SW3 z)) h0 hF hh) fun h1 ⟨m1, l1⟩ => ?_)
    have m1' := m1.mono (V := SW3 b) fun q j z => SW_SW3 z
    have w1 := w.mfC m1' fun q j z => SW3_CW z
    have g1 := g.mf m1' f1 f2 f3
    refine Ok.eq (w1.f0 14 16 (by decide)) (Ok.eq (w1.f0 15 17 (by decide)) (Ok.eq g1.fn ?_))
    rw [i_2i]
    refine Ok.eq (p_cpI (w1.kk 16 (.inr (0, 16)) (by simp [cK])) (w1.kk 17 (.inr (0, 16)) (by simp [cK])) (by omega) (by omega) (by omega)) ?_
    obtain ⟨h2, hh2⟩ : ∃ z, z = e_cI h1 (b + 16) 0 (b + 17) 0 (2 * P.n) := ⟨_, rfl⟩
    rw [← hh2]
    have m2 : MF (SW3 b) h h2 := by
      rw [hh2]
      refine ⟨m1'.k, m1'.R, m1'.n, m1'.u, fun q j z => ?_, m1'.J⟩
      rw [e_I_cI, if_neg (fun y => z (by unfold SW3; omega))]
      exact m1'.I q j z
    have w2 := w.mfC m2 fun q j z => SW3_CW z
    have gg := g2.mf m2 f4 f5 f6
    refine Ok.is w2.k0 (Ok.bind (settle w2 gg (fun j z => f4 j (SW_SW3 z)) (fun j z => f5 j (SW_SW3 z)) (fun j z => f6 j (SW_SW3 z)) (by omega) hF hh) fun h3 ⟨m3, l3⟩ => ?_)
    have m3' := m2.tr (m3.mono (V := SW3 b) fun q j z => SW_SW3 z)
    have w3 := w.mfC m3' fun q j z => SW3_CW z
    have g3 := g.mf m3' f1 f2 f3
    have same : ∀ j, j < 2 * P.n → e_I h3 (b + 17) j = e_I h1 (b + 16) j := by
      intro j hj
      rw [m3.I _ _ (by unfold SW; omega), hh2, e_I_cI, if_pos ⟨rfl, by omega, by omega⟩, show 0 + (j - 0) = j by omega]
    unfold LeastAt at l1 l3
    rw [← hn] at l3
    have hb := both_iff l1 l3
    have hl : lp_X1_areAlike_47 F h3 b a F 0 = some ((fstTo (fun k => if e_I h3 (b + 16) k = e_I h1 (b + 16) k then none else some (.error (0, h3))) (2 * P.n)).getD (.ok ())) := by
      refine lp_run (lp := lp_X1_areAlike_47 F h3 b a) nI _ (2 * P.n) _ (fun k hk f => ?_) (fun f => ?_) (by omega)
      · have hle : (nI (2 * P.n) ≤ nI k) = False := by rw [p_le (by omega) (by omega)]; simp; omega
        have r1 : e_aI h3 (b + 16) 0 (nI k) = some (e_I h3 (b + 16) k) := p_aI (w3.kk 16 (.inr (0, 16)) (by simp [cK])) (by omega) (by decide)
        have r2 : e_aI h3 (b + 17) 0 (nI k) = some (e_I h1 (b + 16) k) := p_aI' (w3.kk 17 (.inr (0, 16)) (by simp [cK])) (by omega) (by decide) (same k hk)
        simp only [lp_X1_areAlike_47, g3.fn, i_2i, hle, if_false, w3.f0 14 16 (by decide), w3.f0 15 17 (by decide), r1, r2, Option.bind_some, ← nI_succ]
        by_cases e : e_I h3 (b + 16) k = e_I h1 (b + 16) k <;> simp [e]
      · simp only [lp_X1_areAlike_47, g3.fn, i_2i, Option.bind_some, Int32.le_refl, if_true]
    rw [hl]
    by_cases y : ∀ k, k < 2 * P.n → e_I h1 (b + 16) k = e_I h3 (b + 16) k
    · rw [fstTo_none.mpr (fun k hk => by rw [if_pos (y k hk).symm])]
      exact Ok.ret ⟨m3', (pI_t ⟨hn, hb.mpr y⟩).symm⟩
    · cases hf : fstTo (fun k => if e_I h3 (b + 16) k = e_I h1 (b + 16) k then none else some ((.error (0, h3) : Except (Int32 × e_H) Unit))) (2 * P.n) with
      | none =>
        exact absurd (fun k hk => by
          have := fstTo_none.mp hf k hk
          by_cases e : e_I h3 (b + 16) k = e_I h1 (b + 16) k
          · exact e.symm
          · rw [if_neg e] at this; cases this) y
      | some r =>
        obtain ⟨k, hk, h1', -⟩ := fstTo_some hf
        split at h1'
        · cases h1'
        · cases h1'
          exact Ok.ret ⟨m3', (pI_f fun z => y (hb.mp z.2)).symm⟩
  · exact Ok.ret ⟨MF.rf _ h, (pI_f fun y => hc (by rw [y.1])).symm⟩
end
