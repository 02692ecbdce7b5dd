/-! PURE LAYER 31: slide, undo, snap, the component's side -/
section
variable {A : Nat → Nat} {b F : Nat} {S : St} {rl : Nat → Nat}
theorem newCopy {h : e_H} (w : RC A b h S) {k : Nat} (hk : k < S.c.m) {α : Type} {Y : Nat → e_H → Option α} {Q : α → Prop}
    (nx : ∀ h2, IsBd h2 (e_n h) (e_n h + 1) (e_n h + 2) (S.c.bd k) → e_J h2 (e_n h) 3 = e256 (S.c.bd k).nm → Fr (fun _ _ => False) h h2 → wfH h2 → e_n h2 = e_n h + 3 → e_u h2 = e_u h + 22 → Ok (Y (e_n h) h2) Q) :
    Ok (e_mkb h (.inl 6) 4 (fun x10 h10 => Option.bind (e_fA h10 b 0 6) (fun x15 => Option.bind (e_fA h10 x15 2 0) (fun x18 => Option.bind (e_aA h10 x18 4 (nI k)) (fun x22 => Option.bind (f_X8_init_2 h10 x10 x22) (fun h23 => Y x10 h23)))))) Q := by
  have hn := w.sh.n
  have wf : wfH h := w.sh.wf
  obtain ⟨B, o, ba, a1, xs1, ys1, cv, ea, g1, nm1⟩ := w.nmOf hk
  have m8 := cv.m8
  have x0 : Fr (fun _ _ => False) h (e_mk h (.inl 6) 4) := (Fr.rf _ h).mkN _ _
  have wf0 : wfH (e_mk h (.inl 6) 4) := wf.mk _ _
  have w0 := w.fr x0 wf0 fun a j z => z.elim
  obtain ⟨B0, o0, ba0, a0, xs0, ys0, cv0, ea0, g0, nm0⟩ := w0.nmOf hk
  refine Ok.mkb (Ok.eq cv0.fB (Ok.eq cv0.fb (Ok.eq ea0 ?_)))
  have ha0 : a0 = a1 := by
    have h1 : B0 = B := by
      have := cv0.rB; rw [x0.R b 6 (by omega) id, cv.rB] at this; exact (Option.some.inj this).symm
    subst h1
    have lB : B0 < e_n h := kne wf (by rw [cv.bh.k]; simp)
    have h2 : ba0 = ba := by
      have := cv0.rb; rw [x0.R B0 0 lB id, cv.rb] at this; exact (Option.some.inj this).symm
    subst h2
    have lba : ba0 < e_n h := kne wf (by rw [cv.kb]; simp)
    have e3 := e_aA_of' cv0.kb (show k < 8 by omega) ea0
    have e4 := e_aA_of' cv.kb (show k < 8 by omega) ea
    rw [x0.R ba0 k lba id, e4] at e3
    exact (Option.some.inj e3).symm
  subst ha0
  exact Ok.bind (copyBand wf g1 nm1) fun h2 ⟨g2, nm2, x2, wf2, n2, u2⟩ => nx h2 g2 nm2 x2 wf2 n2 u2
/-- the first corners of a band slid -/
def Bd.slidTo (P : Bd) (dx dy : Int32) (i : Nat) : Bd := Bd.mk P.n (fun j => if j < i then P.x j + dx else P.x j) (fun j => if j < i then P.y j + dy else P.y j) P.nm
theorem slidTo_x (P : Bd) (dx dy : Int32) (i j : Nat) : (P.slidTo dx dy i).x j = if j < i then P.x j + dx else P.x j := rfl
theorem slidTo_y (P : Bd) (dx dy : Int32) (i j : Nat) : (P.slidTo dx dy i).y j = if j < i then P.y j + dy else P.y j := rfl
theorem RC.slide {h : e_H} (w : RC A b h S) (bn : Bn S) (hp : ∀ j, j < S.c.m → 0 < (S.c.bd j).n) (hF : 20 < F) (v dx dy : Int32) : Ok (f_X1_slide F h b v dx dy) fun z => z.1 = S.vSlide v dx dy ∧ RC A b z.2 (S.slide v dx dy) ∧ Kp b h z.2 := by
  obtain ⟨B, o, ba, cv⟩ := w.view
  have hm := cv.m8
  have hn := w.sh.n
  have wf : wfH h := w.sh.wf
  unfold f_X1_slide St.vSlide St.slide
  simp only [cv.is, cv.isBand, Option.bind_some]
  cases q : S.c.isB v with
  | false => exact Ok.ret ⟨rfl, w, Kp.rf b h⟩
  | true =>
    obtain ⟨k, rfl, hk⟩ := Im.isB_of q hm
    obtain ⟨rl, d⟩ := w.dyn
    simp only [b2i, if_true, show ¬ (1 : Int32) = 0 by decide, if_false, Im.vB, nI_clamp (show k < 2 ^ 31 by omega)]
    refine newCopy w hk fun h2 g2 nm2 x2 wf2 n2 u2 => ?_
    have hp' := hp k hk
    obtain ⟨P, hP⟩ : ∃ P, P = S.c.bd k := ⟨_, rfl⟩
    rw [← hP] at g2 nm2 hp' ⊢
    have h8 := g2.le
    cases hn2 : nearS dx dy with
    | false =>
      have ex : lp_X1_slide_31 F dx dy (e_n h) F 0 h2 = some (.error (1, h2)) := by
        obtain ⟨F', rfl⟩ : ∃ g, F = g + 1 := ⟨F - 1, by omega⟩
        unfold lp_X1_slide_31
        rw [g2.fn]
        simp only [Option.bind_some, f_isIn]
        rw [if_neg (by rw [show (0 : Int32) = nI 0 from rfl, p_le (by omega) (by omega)]; omega)]
        unfold nearS at hn2
        rw [Bool.and_eq_false_iff] at hn2
        rcases hn2 with z | z
        · rw [z]; rfl
        · rw [z]
          cases g_in dx (-10) 10 <;> rfl
      rw [ex]
      simp only [bE_e]
      exact Ok.ret ⟨rfl, w.fr x2 wf2 fun a j z => z.elim, x2.kp hn (fun a j z => z.elim) (by show e_n h2 ≤ _; omega) (by show e_u h2 ≤ _; omega)⟩
    | true =>
      simp only [if_true]
      have nx1 : g_in dx (-10) 10 = true := by unfold nearS at hn2; rw [Bool.and_eq_true] at hn2; exact hn2.1
      have nx2 : g_in dy (-10) 10 = true := by unfold nearS at hn2; rw [Bool.and_eq_true] at hn2; exact hn2.2
      refine Ok.bE (R := fun z => ∃ h3, z = .ok h3 ∧ IsBd h3 (e_n h) (e_n h + 1) (e_n h + 2) (P.slid dx dy) ∧ e_J h3 (e_n h) 3 = e256 P.nm ∧ Fr (fun _ _ => False) h h3 ∧ wfH h3 ∧ e_n h3 = e_n h + 3 ∧ e_u h3 = e_u h + 22) ?_ (fun r ⟨h3, e, _⟩ => by cases e) (fun r ⟨h3, e, g3, nm3, x3, wf3, n3, u3⟩ => ?_)
      · refine Ok.loopC2 (lp := lp_X1_slide_31 F dx dy (e_n h)) (fun i x h3 => x = nI i ∧ IsBd h3 (e_n h) (e_n h + 1) (e_n h + 2) (P.slidTo dx dy i) ∧ e_J h3 (e_n h) 3 = e256 P.nm ∧ Fr (fun _ _ => False) h h3 ∧ wfH h3 ∧ e_n h3 = e_n h + 3 ∧ e_u h3 = e_u h + 22) P.n (fun i x h3 f hi ⟨e, g3, nm3, x3, wf3, n3, u3⟩ nx => ?_) (fun x h3 f ⟨e, g3, nm3, x3, wf3, n3, u3⟩ => ?_) (by omega) ⟨rfl, g2.same rfl (fun j hj => by rw [slidTo_x, if_neg (by omega)]) (fun j hj => by rw [slidTo_y, if_neg (by omega)]), nm2, x2, wf2, n2, u2⟩
        · subst e
          have hi' : i < (P.slidTo dx dy i).n := hi
          have kw := p_wI g3.kx (show i < 9 by omega) (by decide) (P.x i + dx)
          obtain ⟨h4, hh4⟩ : ∃ z, z = e_sI h3 (e_n h + 1) i (P.x i + dx) := ⟨_, rfl⟩
          rw [← hh4] at kw
          have kN4 : e_k h4 (e_n h) = some (.inl 6) := by rw [hh4]; exact g3.k
          have ky4 : e_k h4 (e_n h + 2) = some (.inr (0, 9)) := by rw [hh4]; exact g3.ky
          have f4 : e_fA h4 (e_n h) 6 1 = some (e_n h + 2) := p_fA kN4 (by rw [hh4]; exact g3.ry)
          have r4 : e_aI h4 (e_n h + 2) 0 (nI i) = some (P.y i) := by
            rw [p_aI ky4 (by omega) (by decide), hh4, e_I_sI, if_neg (by omega), g3.y i hi', slidTo_y, if_neg (by omega)]
          have kw2 := p_wI ky4 (show i < 9 by omega) (by decide) (P.y i + dy)
          have ax : e_aI h3 (e_n h + 1) 0 (nI i) = some (P.x i) := by rw [g3.ax hi', slidTo_x, if_neg (by omega)]
          have hnle : (nI P.n ≤ nI i) = False := by rw [p_le (by omega) (by omega)]; simp; omega
          have fn3 : e_fI h3 (e_n h) 6 2 = some (nI P.n) := g3.fn
          simp only [lp_X1_slide_31, fn3, hnle, if_false, f_isIn, nx1, nx2, b2i, if_true, show ¬ (1 : Int32) = 0 by decide, g3.fx, ax, kw, f4, r4, kw2, Option.bind_some, ← nI_succ]
          refine nx _ _ ⟨rfl, ?_, ?_, ?_, ?_, ?_, ?_⟩
          · have := g3.setC (by omega) hi' (P.x i + dx) (P.y i + dy)
            rw [← hh4] at this
            refine this.same rfl (fun j hj => ?_) (fun j hj => ?_)
            · rw [setC_x, slidTo_x, slidTo_x]
              by_cases z : j = i
              · rw [if_pos (by omega), if_pos z, z]
              · rw [if_neg z]
                by_cases z2 : j < i
                · rw [if_pos z2, if_pos (by omega)]
                · rw [if_neg z2, if_neg (by omega)]
            · rw [setC_y, slidTo_y, slidTo_y]
              by_cases z : j = i
              · rw [if_pos (by omega), if_pos z, z]
              · rw [if_neg z]
                by_cases z2 : j < i
                · rw [if_pos z2, if_pos (by omega)]
                · rw [if_neg z2, if_neg (by omega)]
          · rw [hh4]; exact nm3
          · rw [hh4]; exact (x3.sI _ (Or.inl (by omega))).sI _ (Or.inl (by omega))
          · rw [hh4]; exact wf3.of rfl rfl
          · rw [hh4]; exact n3
          · rw [hh4]; exact u3
        · subst e
          have fn3 : e_fI h3 (e_n h) 6 2 = some (nI P.n) := g3.fn
          simp only [lp_X1_slide_31, fn3, Option.bind_some, Int32.le_refl, if_true]
          exact Ok.ret ⟨h3, rfl, g3.same rfl (fun j hj => by rw [slidTo_x, if_pos (show j < P.n from hj)]; rfl) (fun j hj => by rw [slidTo_y, if_pos (show j < P.n from hj)]; rfl), nm3, x3, wf3, n3, u3⟩
      · cases e
        have w3 := w.fr x3 wf3 fun a j z => z.elim
        have d3 := d.fr wf hn x3 (fun a j z => z.elim) id id (fun _ => id) (fun _ => id)
        refine Ok.is w3.k0 (Ok.b2 (changesC w3 bn d3 hF (N := e_n h) hn (by omega) (fun a h1 h2 => ?_) g3 nm3 hk) fun u h5 ⟨c1, c2, c3, c4, c5⟩ => Ok.ret ⟨c1, c2, ?_⟩)
        · by_cases z : rl a = 0
          · exact z
          · have := (d.dom a z).1; omega
        · have c4 : e_n h5 ≤ e_n r + 1 := c4
          have c5 : e_u h5 ≤ e_u r + 8 := c5
          exact ((x3.mono fun _ _ z => z.elim).tr c3).kpD hn (by show e_n h5 ≤ _; omega) (by show e_u h5 ≤ _; omega)
/-- a board's row of bands, new: the whole state -/
theorem RC.setRow {h h' : e_H} (w : RC A b h S) (d : RD rl b h S) {B ba : Nat} (rB : e_R h b 6 = some B) (rb : e_R h B 0 = some ba) (k' : e_k h' = e_k h) (n' : e_n h' = e_n h) (u' : e_u h' = e_u h) (I' : ∀ a j, (a ≠ B ∨ j ≠ 4) → (a ≠ b ∨ j ≠ 19) → e_I h' a j = e_I h a j) (J' : e_J h' = e_J h) (R' : ∀ a j, a ≠ ba → e_R h' a j = e_R h a j)
    {m' : Nat} {bd' : Nat → Bd} (m8 : m' ≤ 8) (hm : e_I h' B 4 = nI m') (rw' : ∀ i, i < m' → ∃ a, e_R h' ba i = some a ∧ CB rl h a (bd' i)) (ft : ∀ i, i < 8 → fitR h (e_R h' ba i)) {um : Nat} (hum : um ≤ S.um) (eu : e_I h' b 19 = nI um) :
    RC A b h' (St.mk S.tl S.tp S.fault S.why ((Im.mk S.c.d (m') (bd') S.c.c S.c.lm S.c.la S.c.lb S.c.sn)) (um) S.ud S.fm S.fo S.xm S.tx S.im) ∧ Fr (DC b) h h' := by
  have hn := w.sh.n
  obtain ⟨B', o, ba', rB', hd, hm0, row⟩ := d.cur
  have e1 : B' = B := Option.some.inj (rB'.symm.trans rB)
  subst e1
  have e2 : ba' = ba := Option.some.inj (hd.r.symm.trans rb)
  subst e2
  have fB := (d.dom B' (by rw [hd.rB]; decide)).2
  have fba := (d.dom ba' (by rw [hd.rb]; decide)).2
  have x : Fr (DC b) h h' := by
    refine ⟨by omega, by omega, fun a _ => by rw [k'], fun a j _ z => I' a j ?_ ?_, fun a j _ _ => by rw [J'], fun a j _ z => R' a j ?_⟩
    · by_cases y : a = B'
      · exact absurd (Far_DC (j := j) (by rw [y]; exact fB)) z
      · exact Or.inl y
    · by_cases y : a = b ∧ j = 19
      · exact absurd (KW_DC (b := b) (a := a) (j := j) (Or.inl y)) z
      · omega
    · intro y
      exact z (Far_DC (by rw [y]; exact fba))
  exact ⟨w.dynU (x.mono fun a j z => z.1) (fun a ha => by rw [k']; exact w.sh.wf a (by omega)) rfl eu ⟨rl, d.setRow hn rB rb k' n' I' J' R' m8 hm rw' ft hum⟩, x⟩
theorem RC.undo {h : e_H} (w : RC A b h S) (bn : Bn S) : Ok (f_X1_undo h b) fun z => z.1 = S.vUndo ∧ RC A b z.2 S.undo ∧ Kp b h z.2 := by
  have hn := w.sh.n
  have wf : wfH h := w.sh.wf
  have h8 := bn.um
  unfold f_X1_undo St.vUndo St.undo
  refine Ok.eq (v := nI S.um) (by rw [p_fI w.k0, w.um]) ?_
  by_cases q : S.um = 0
  · rw [if_pos (show nI S.um = 0 by rw [q]; rfl), if_pos q, if_pos q]
    exact Ok.ret ⟨rfl, w, Kp.rf b h⟩
  · rw [if_neg (show ¬ nI S.um = 0 by rw [p_e0 (by omega)]; exact q), if_neg q, if_neg q]
    obtain ⟨u, hu⟩ : ∃ u, u = S.um - 1 := ⟨_, rfl⟩
    rw [← hu]
    obtain ⟨rl, d⟩ := w.dyn
    obtain ⟨B, o, ba, rB, hd, hm0, row⟩ := d.cur
    obtain ⟨r, g1, g2, g3, g4, g5⟩ := d.und u (by omega)
    have lB := (d.dom B (by rw [hd.rB]; decide))
    have lr := (d.dom r (by omega))
    have rba : r ≠ ba := fun e => by rw [e, hd.rb] at g2; cases g2
    have Bba : B ≠ ba := fun e => by have := hd.bh.k; rw [e, hd.k] at this; cases this
    obtain ⟨n, hn'⟩ : ∃ n, n = (S.ud u).1 := ⟨_, rfl⟩
    rw [← hn'] at g3 g4 g5
    refine Ok.eq (v := nI S.um) (by rw [p_fI w.k0, w.um]) (Ok.gI w.k0 ?_)
    rw [show nI S.um - 1 = nI u by rw [show (1 : Int32) = nI 1 from rfl, p_sub (by omega), hu]]
    obtain ⟨h1, hh1⟩ : ∃ z, z = e_sI h b 19 (nI u) := ⟨_, rfl⟩
    rw [← hh1]
    have k1 : e_k h1 = e_k h := by rw [hh1]; rfl
    have R1 : e_R h1 = e_R h := by rw [hh1]; rfl
    have kb1 : e_k h1 b = some (.inl 0) := by rw [k1]; exact w.k0
    have f6 : e_fA h1 b 0 6 = some B := p_fA kb1 (by rw [R1]; exact rB)
    have cp : e_cpR h1 4 r 0 ba 0 (nI n) = some (e_cR h1 r 0 ba 0 n) := by
      refine p_cpR (p := 0) (q := 0) (by rw [k1]; exact g3) (by rw [k1]; exact hd.k) (by omega) (by omega) (by omega) (by decide) fun j hj => ?_
      rw [Nat.zero_add, R1]
      obtain ⟨a, p1, xs, ys, p2, -⟩ := g5 j hj
      rw [p1]
      exact fit4 (Or.inr ⟨a, rfl, by rw [k1]; exact p2.k⟩)
    refine Ok.eq (p_fA kb1 (by rw [R1]; exact w.r0 18 19 (by decide))) (Ok.eq (v := nI u) (by rw [p_fI kb1, hh1, e_I_sI, if_pos ⟨rfl, rfl⟩]) (Ok.eq (p_aA (by rw [k1]; exact w.kk 19 _ (by simp [cK])) (show u < 8 by omega) (by decide) (by rw [R1]; exact g1)) (Ok.eq f6 (Ok.eq (p_fA (by rw [k1]; exact hd.bh.k) (by rw [R1]; exact hd.r)) (Ok.eq (p_len (by rw [k1]; exact g3)) (Ok.eq cp ?_))))))
    obtain ⟨h2, hh2⟩ : ∃ z, z = e_cR h1 r 0 ba 0 n := ⟨_, rfl⟩
    rw [← hh2]
    have k2 : e_k h2 = e_k h := by rw [hh2]; exact k1
    have R2 : ∀ a j, a ≠ ba → e_R h2 a j = e_R h a j := fun a j z => by rw [hh2, e_R_cR, if_neg (fun y => z y.1), R1]
    have Rb2 : ∀ j, e_R h2 ba j = if j < n then e_R h r j else e_R h ba j := fun j => by
      rw [hh2, e_R_cR]
      by_cases z : j < n
      · rw [if_pos ⟨rfl, by omega, by omega⟩, if_pos z, show 0 + (j - 0) = j by omega, R1]
      · rw [if_neg (by omega), if_neg z, R1]
    have kb2 : e_k h2 b = some (.inl 0) := by rw [k2]; exact w.k0
    have fba := (d.dom ba (by rw [hd.rb]; decide)).2
    refine Ok.eq (p_fA kb2 (by rw [R2 b 6 (by omega)]; exact rB)) (Ok.eq (p_len (by rw [k2]; exact g3)) (Ok.gI (by rw [k2]; exact hd.bh.k) ?_))
    obtain ⟨h3, hh3⟩ : ∃ z, z = e_sI h2 B 4 (nI n) := ⟨_, rfl⟩
    rw [← hh3]
    have e19 : e_I h3 b 19 = nI u := by rw [hh3, e_I_sI, if_neg (by omega), hh2, e_I_cR, hh1, e_I_sI, if_pos ⟨rfl, rfl⟩]
    refine Ok.eq (v := nI u) (by rw [p_fI (show e_k h3 b = some (.inl 0) by rw [hh3]; exact kb2), e19]) (Ok.ret ?_)
    have st := w.setRow d rB hd.r (h' := h3) (m' := n) (bd' := (S.ud u).2) (um := u) (by rw [hh3]; exact k2) (by rw [hh3, hh2, hh1]; rfl) (by rw [hh3, hh2, hh1]; rfl) (fun a j z1 z2 => by rw [hh3, e_I_sI, if_neg (by omega), hh2, e_I_cR, hh1, e_I_sI, if_neg (by omega)]) (by rw [hh3, hh2, hh1]; rfl) (fun a j z => by rw [hh3, e_R_sI]; exact R2 a j z) g4 (by rw [hh3, e_I_sI, if_pos ⟨rfl, rfl⟩]) (fun i hi => by
        obtain ⟨a, p1, p2⟩ := g5 i hi
        exact ⟨a, by rw [hh3, e_R_sI, Rb2, if_pos hi]; exact p1, p2⟩) (fun i hi => by
        rw [hh3, e_R_sI, Rb2]
        by_cases z : i < n
        · rw [if_pos z]
          obtain ⟨a, p1, xs, ys, p2, -⟩ := g5 i z
          exact Or.inr ⟨a, p1, p2.k⟩
        · rw [if_neg z]; exact row.f i hi) (by omega) e19
    refine ⟨rfl, ?_, st.2.kpD hn (by rw [hh3, hh2, hh1]; exact Nat.le_add_right _ _) (by rw [hh3, hh2, hh1]; exact Nat.le_add_right _ _)⟩
    rw [hn'] at st
    exact st.1
theorem RC.snap {h : e_H} (w : RC A b h S) (bn : Bn S) (hf : ∀ j, j < S.c.m → (S.c.bd j).fit) (hF : 3000 < F) (v : Int32) : Ok (f_X1_snap F h b v) fun z => z.1 = S.vSnap v ∧ RC A b z.2 (S.snap v) ∧ Kp b h z.2 := by
  obtain ⟨B0, o0, ba0, cv⟩ := w.view
  have hm := cv.m8
  have hn := w.sh.n
  have wf : wfH h := w.sh.wf
  unfold f_X1_snap St.vSnap St.snap
  simp only [cv.is, cv.isBand, Option.bind_some]
  cases q : S.c.isB v with
  | false => exact Ok.ret ⟨rfl, w, Kp.rf b h⟩
  | true =>
    obtain ⟨k, rfl, hk⟩ := Im.isB_of q hm
    obtain ⟨rl, d⟩ := w.dyn
    simp only [b2i, if_true, show ¬ (1 : Int32) = 0 by decide, if_false, nI_clamp (show k < 2 ^ 31 by omega), cv.fB, cv.isd, cv.freeB (show 100 < F by omega) hf, Option.bind_some]
    refine Ok.bind (keepC w bn d) fun h1 ⟨w1, d1, x1, wf1, n1, u1⟩ => ?_
    obtain ⟨B, o, ba, rB, hd, hm0, row⟩ := d1.cur
    have hm0 : e_I h1 B 4 = nI S.c.m := hm0
    have k0 := w1.k0
    have fba := (d1.dom ba (by rw [hd.rb]; decide)).2
    have fB := (d1.dom B (by rw [hd.rB]; decide)).2
    have Bba : B ≠ ba := fun e => by have := hd.bh.k; rw [e, hd.k] at this; cases this
    have row' : ∀ i, i < S.c.m → ∃ a, e_R h1 ba i = some a ∧ CB (fun a => if a = e_n h then 1 else rl a) h1 a (S.c.bd i) := row.b
    refine Ok.bind (R := fun h2 => (e_k h2 = e_k h1 ∧ e_I h2 = e_I h1 ∧ e_J h2 = e_J h1 ∧ e_n h2 = e_n h1 ∧ e_u h2 = e_u h1) ∧ (∀ a j, a ≠ ba → e_R h2 a j = e_R h1 a j) ∧ ∀ j, e_R h2 ba j = if k ≤ j ∧ j + 1 < S.c.m then e_R h1 ba (j + 1) else e_R h1 ba j) ?_ fun h2 ⟨⟨k2, i2, j2, n2, u2⟩, R2, Rb2⟩ => ?_
    · refine Ok.loopC2 (lp := lp_X1_snap_24 F b) (fun i x h' => x = nI (k + i) ∧ (e_k h' = e_k h1 ∧ e_I h' = e_I h1 ∧ e_J h' = e_J h1 ∧ e_n h' = e_n h1 ∧ e_u h' = e_u h1) ∧ (∀ a j, a ≠ ba → e_R h' a j = e_R h1 a j) ∧ ∀ j, e_R h' ba j = if k ≤ j ∧ j < k + i then e_R h1 ba (j + 1) else e_R h1 ba j) (S.c.m - 1 - k) (fun i x h' f hi ⟨e, ⟨k', i', j', n', u'⟩, R', Rb'⟩ nx => ?_) (fun x h' f ⟨e, ⟨k', i', j', n', u'⟩, R', Rb'⟩ => ?_) (by omega) ⟨rfl, ⟨rfl, rfl, rfl, rfl, rfl⟩, fun _ _ _ => rfl, fun j => by rw [if_neg (by omega)]⟩
      · subst e
        have kb : e_k h' b = some (.inl 0) := by rw [k']; exact k0
        have f6 : e_fA h' b 0 6 = some B := p_fA kb (by rw [R' b 6 (by omega)]; exact rB)
        have kB : e_k h' B = some (.inl 2) := by rw [k']; exact hd.bh.k
        have f0 : e_fA h' B 2 0 = some ba := p_fA kB (by rw [R' B 0 Bba]; exact hd.r)
        have kba : e_k h' ba = some (.inr (4, 8)) := by rw [k']; exact hd.k
        have e4 : e_fI h' B 2 4 = some (nI S.c.m) := by rw [p_fI kB, i', hm0]
        have es : nI (k + i) + 1 = nI (k + (i + 1)) := by rw [← nI_succ]; rfl
        have hle : (nI S.c.m ≤ nI (k + (i + 1))) = False := by rw [p_le (by omega) (by omega)]; simp; omega
        obtain ⟨a, p1, xs, ys, p2, -⟩ := row' (k + (i + 1)) (by omega)
        have ra : e_aA h' ba 4 (nI (k + (i + 1))) = some a := p_aA kba (by omega) (by decide) (by rw [Rb', if_neg (by omega)]; exact p1)
        have kw := p_wR kba (show k + i < 8 by omega) (by decide) (v := some a) (fit4 (Or.inr ⟨a, rfl, by rw [k']; exact p2.k⟩))
        simp only [lp_X1_snap_24, f6, e4, f0, es, hle, if_false, ra, kw, Option.bind_some]
        refine nx _ _ ⟨rfl, ⟨k', i', j', n', u'⟩, fun a' j z => ?_, fun j => ?_⟩
        · rw [e_R_sR, if_neg (fun y => z y.1)]; exact R' a' j z
        · rw [e_R_sR]
          by_cases z : j = k + i
          · rw [if_pos ⟨rfl, z⟩, if_pos (by omega), z]; exact p1.symm
          · rw [if_neg (fun y => z y.2), Rb' j]
            by_cases z2 : k ≤ j ∧ j < k + i
            · rw [if_pos z2, if_pos (by omega)]
            · rw [if_neg z2, if_neg (by omega)]
      · subst e
        have kb : e_k h' b = some (.inl 0) := by rw [k']; exact k0
        have f6 : e_fA h' b 0 6 = some B := p_fA kb (by rw [R' b 6 (by omega)]; exact rB)
        have kB : e_k h' B = some (.inl 2) := by rw [k']; exact hd.bh.k
        have e4 : e_fI h' B 2 4 = some (nI S.c.m) := by rw [p_fI kB, i', hm0]
        have hle : nI S.c.m ≤ nI (k + (S.c.m - 1 - k)) + 1 := by rw [← nI_succ, p_le (by omega) (by omega)]; omega
        simp only [lp_X1_snap_24, f6, e4, Option.bind_some, hle, if_true]
        refine Ok.ret ⟨⟨k', i', j', n', u'⟩, R', fun j => ?_⟩
        rw [Rb' j]
        by_cases z : k ≤ j ∧ j + 1 < S.c.m
        · rw [if_pos (by omega), if_pos z]
        · rw [if_neg (by omega), if_neg z]
    · have kb2 : e_k h2 b = some (.inl 0) := by rw [k2]; exact k0
      have kB2 : e_k h2 B = some (.inl 2) := by rw [k2]; exact hd.bh.k
      refine Ok.eq (p_fA kb2 (by rw [R2 b 6 (by omega)]; exact rB)) (Ok.eq (v := nI S.c.m) (by rw [p_fI kB2, i2, hm0]) (Ok.gI kB2 ?_))
      rw [show nI S.c.m - 1 = nI (S.c.m - 1) by rw [show (1 : Int32) = nI 1 from rfl, p_sub (by omega)]]
      obtain ⟨h3, hh3⟩ : ∃ z, z = e_sI h2 B 4 (nI (S.c.m - 1)) := ⟨_, rfl⟩
      rw [← hh3]
      have fN : ∀ i, i < 8 → fitR h1 (e_R h2 ba i) := fun i hi => by
        rw [Rb2]
        by_cases z : k ≤ i ∧ i + 1 < S.c.m
        · rw [if_pos z]; exact row.f (i + 1) (by omega)
        · rw [if_neg z]; exact row.f i hi
      have st := w1.setRow d1 rB hd.r (h' := h3) (m' := S.c.m - 1) (bd' := delB S.c.bd k) (um := S.keep.um) (by rw [hh3]; exact k2) (by rw [hh3]; exact n2) (by rw [hh3]; exact u2) (fun a j z1 z2 => by rw [hh3, e_I_sI, if_neg (by omega), i2]) (by rw [hh3]; exact j2) (fun a j z => by rw [hh3, e_R_sI]; exact R2 a j z) (by omega) (by rw [hh3, e_I_sI, if_pos ⟨rfl, rfl⟩]) (fun i hi => by
          rw [hh3, e_R_sI, Rb2]
          by_cases z : i < k
          · have hdb : delB S.c.bd k i = S.c.bd i := by unfold delB; rw [if_pos z]
            rw [if_neg (by omega), hdb]; exact row' i (by omega)
          · have hdb : delB S.c.bd k i = S.c.bd (i + 1) := by unfold delB; rw [if_neg z]
            rw [if_pos (by omega), hdb]; exact row' (i + 1) (by omega)) (fun i hi => by rw [hh3, e_R_sI]; exact fN i hi) (Nat.le_refl _) (by rw [hh3, e_I_sI, if_neg (by omega), i2]; exact w1.um)
      have w3 : RC A b h3 (St.mk S.keep.tl S.keep.tp S.keep.fault S.keep.why (S.c.snap k) S.keep.um S.keep.ud S.keep.fm S.keep.fo S.keep.xm S.keep.tx S.keep.im) := st.1
      obtain ⟨B3, o3, ba3, cv3⟩ := w3.view
      have hf3 : ∀ j, j < (S.c.snap k).m → ((S.c.snap k).bd j).fit := by
        intro j hj
        have hj : j < S.c.m - 1 := hj
        show (delB S.c.bd k j).fit
        unfold delB
        split
        · exact hf j (by omega)
        · exact hf (j + 1) (by omega)
      refine Ok.eq cv3.fB (Ok.eq cv3.isd (Ok.eq (cv3.freeB (show 100 < F by omega) hf3) (Ok.ret ⟨rfl, w3, ?_⟩)))
      exact ((x1.mono fun a j z => KW_DC z).tr st.2).kpD hn (by show e_n h3 ≤ _; rw [hh3]; show e_n h2 ≤ _; omega) (by show e_u h3 ≤ _; rw [hh3]; show e_u h2 ≤ _; omega)
end
