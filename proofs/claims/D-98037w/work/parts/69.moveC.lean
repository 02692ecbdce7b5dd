/-! PURE LAYER 30: move, slide, undo, snap, the component's side -/
theorem e_aA_of' {h : e_H} {a t n j v : Nat} (hk : e_k h a = some (.inr (t, n))) (hj : j < n) (e : e_aA h a t (nI j) = some v) (hn : n < 2 ^ 31 := by decide) : e_R h a j = some v := by
  unfold e_aA at e
  rw [p_aR hk hj hn] at e
  exact e
theorem sI_same {h : e_H} {a k : Nat} {v : Int32} (e : e_I h a k = v) : e_sI h a k v = h := by
  have : (fun b j => if b = a ∧ j = k then v else e_I h b j) = h.2.1 := by
    funext b j
    by_cases z : b = a ∧ j = k
    · rw [if_pos z, z.1, z.2, ← e]; rfl
    · rw [if_neg z]; rfl
  unfold e_sI
  rw [this]
/-- the component's own places among them -/
def DC (b a j : Nat) : Prop := DW b a j ∧ (a < b + 33 ∨ b + 62 ≤ a)
theorem KW_DC {b a j : Nat} (z : KW b a j) : DC b a j := by
  unfold KW at z
  refine ⟨?_, by omega⟩
  rcases z with z | z
  · exact Or.inr (Or.inl ⟨z.1, Or.inl z.2⟩)
  · exact Or.inr (Or.inr (Or.inl z))
theorem Far_DC {b a j : Nat} (z : Far b a) : DC b a j := ⟨Or.inr (Or.inr (Or.inr (Or.inr z))), by unfold Far at z; omega⟩
section
variable {A : Nat → Nat} {b F : Nat} {S : St} {rl : Nat → Nat}
/-- a board's row of bands, new -/
theorem RD.setRow {h h' : e_H} (hn : b + 62 ≤ e_n h) (d : RD rl b h S) {B ba : Nat} (rB : e_R h b 6 = some B) (rb : e_R h B 0 = some ba) (k' : e_k h' = e_k h) (n' : e_n h' = e_n h) (I' : ∀ a j, (a ≠ B ∨ j ≠ 4) → (a ≠ b ∨ j ≠ 19) → e_I h' a j = e_I h a j) (J' : e_J h' = e_J h) (R' : ∀ a j, a ≠ ba → e_R h' a j = e_R h a j)
    {m' : Nat} {bd' : Nat → Bd} (m8 : m' ≤ 8) (hm : e_I h' B 4 = nI m') (rw' : ∀ i, i < m' → ∃ a, e_R h' ba i = some a ∧ CB rl h a (bd' i)) (ft : ∀ i, i < 8 → fitR h (e_R h' ba i)) {um : Nat} (hum : um ≤ S.um) : RD rl b h' (St.mk S.tl S.tp S.fault S.why ((Im.mk S.c.d (m') (bd') S.c.c S.c.lm S.c.la S.c.lb S.c.sn)) (um) S.ud S.fm S.fo S.xm S.tx S.im) := by
  obtain ⟨B', o, ba', rB', hd, hm0, row⟩ := d.cur
  have e1 : B' = B := Option.some.inj (rB'.symm.trans rB)
  subst e1
  have e2 : ba' = ba := Option.some.inj (hd.r.symm.trans rb)
  subst e2
  have fB := d.dom B' (by rw [hd.rB]; decide)
  have fba := d.dom ba' (by rw [hd.rb]; decide)
  have Bba : B' ≠ ba' := fun e => by have := hd.bh.k; rw [e, hd.k] at this; cases this
  have nb : ∀ a, rl a ≠ 0 → a ≠ b := fun a ha e => by have := (d.dom a ha).2; omega
  have ev : Ev rl rl h h' := by
    refine ⟨fun a _ => by rw [k'], fun a ha => ⟨ha, ?_, by rw [J'], ?_⟩⟩
    · funext j
      exact I' a j (Or.inl fun e => by rw [e, hd.rB] at ha; cases ha) (Or.inl (nb a (by omega)))
    · funext j
      exact R' a j fun e => by rw [e, hd.rb] at ha; cases ha
  refine ⟨fun a ha => ⟨by rw [n']; exact (d.dom a ha).1, (d.dom a ha).2⟩, ⟨B', o, ba', by rw [R' b 6 (by omega)]; exact rB, hd.ev ev (funext fun j => R' B' j Bba) (fun j hj => I' B' j (Or.inr hj) (Or.inl (nb B' (by rw [hd.rB]; decide)))) hd.rB hd.rb, hm, ⟨by rw [k']; exact hd.k, m8, fun i hi => ?_, fun i hi => (ft i hi).ev fun a _ => by rw [k']⟩⟩, fun i hi => ?_, ?_, fun q hq => ⟨fun hs => ?_, fun c hc => ?_⟩⟩
  · obtain ⟨a, g1, g2⟩ := rw' i hi
    exact ⟨a, g1, g2.ev ev⟩
  · have hi : i < um := hi
    obtain ⟨r, h1, h2, h3, h4, h5⟩ := d.und i (by omega)
    refine ⟨r, by rw [R' _ _ (by omega)]; exact h1, h2, ev.k' h3, h4, fun j hj => ?_⟩
    obtain ⟨a, g1, g2⟩ := h5 j hj
    exact ⟨a, by rw [(ev.s r h2).2.2.2]; exact g1, g2.ev ev⟩
  · show CSnO _ h' S.c.sn (e_R h' b 35)
    rw [R' b 35 (by omega)]; exact d.sen.ev ev
  · rw [R' _ _ (by omega)]; exact (d.img q hq).1 hs
  · obtain ⟨a, g1, g2⟩ := (d.img q hq).2 c hc
    refine ⟨a, by rw [R' _ _ (by omega)]; exact g1, g2.ev ev (fun p hp => ⟨hp, ?_, ?_⟩) (fun B2 hB => ⟨hB, fun hk2 => ⟨?_, fun j hj => I' B2 j (Or.inr hj) (Or.inl (nb B2 (by omega)))⟩⟩)⟩
    · funext j
      exact I' p j (Or.inl fun e => by rw [e, hd.rB] at hp; omega) (Or.inl (nb p (by omega)))
    · funext j
      exact R' p j fun e => by rw [e, hd.rb] at hp; omega
    · funext j
      exact R' B2 j fun e => by rw [e, hd.k] at hk2; cases hk2
/-- a new band in place of one, if it is not wrong -/
theorem changesC {h : e_H} (w : RC A b h S) (bn : Bn S) (d : RD rl b h S) (hF : 20 < F) {N : Nat} (hN : b + 62 ≤ N) (hN3 : N + 3 ≤ e_n h) (r0 : ∀ a, N ≤ a → a < N + 3 → rl a = 0) {P : Bd} (g : IsBd h N (N + 1) (N + 2) P) (nm : e_J h N 3 = e256 P.nm) {k : Nat} (hk : k < S.c.m) :
    Ok (f_X1_changes F h b (nI k) N) fun z => z.1 = S.c.d.wrong S.c.m S.c.bd k P ∧ RC A b z.2 (S.chg k P) ∧ Fr (DC b) h z.2 ∧ e_n z.2 ≤ e_n h + 1 ∧ e_u z.2 ≤ e_u h + 8 := by
  obtain ⟨B, o, ba, cv⟩ := w.view
  have m8 := cv.m8
  have hn := w.sh.n
  unfold f_X1_changes St.chg
  refine Ok.eq cv.fB (Ok.eq cv.isd (Ok.eq (cv.why g (show 9 < F by omega) (but := nI k) (k := k) (fun o ho => by rw [p_eq (by omega) (by omega)])) ?_))
  rcases Hd.wrong_v S.c.d S.c.m S.c.bd k P with hz | ⟨hz1, hz2⟩
  · rw [hz, if_pos (Int32.le_refl _), if_pos rfl]
    refine Ok.bind (keepC w bn d) fun h1 ⟨w1, d1, x1, wf1, n1, u1⟩ => ?_
    obtain ⟨B1, o1, ba1, cv1⟩ := w1.view
    have g1 := g.fr w.sh.wf x1 (fun j z => by unfold KW at z; omega) (fun j z => by unfold KW at z; omega) (fun j z => by unfold KW at z; omega)
    have nm1 : e_J h1 N 3 = e256 P.nm := by rw [x1.J N 3 (by omega) (by unfold KW; omega)]; exact nm
    refine Ok.eq cv1.fB (Ok.eq cv1.fb (Ok.eq (p_wR cv1.kb (show k < 8 by omega) (by decide) (fit4 (Or.inr ⟨N, rfl, g1.k⟩))) (Ok.ret ⟨rfl, ?_, ?_, ?_, ?_⟩)))
    · obtain ⟨B2, o2, ba2, rB2, hd2, hm2, row2⟩ := d1.cur
      have e1 : B2 = B1 := Option.some.inj (rB2.symm.trans cv1.rB)
      subst e1
      have e2 : ba2 = ba1 := Option.some.inj (hd2.r.symm.trans cv1.rb)
      subst e2
      have hm2' : e_I (e_sR h1 ba2 k (some N)) B2 4 = nI S.keep.c.m := hm2
      have d2 := d1.setB wf1 (by omega) hN (by omega) (fun a h1 h2 => by rw [if_neg (by omega)]; exact r0 a h1 h2) g1 nm1 rB2 hd2.r (k := k) (m' := S.keep.c.m) hk (Or.inl rfl) m8 (h' := e_sR h1 ba2 k (some N)) (sI_same hm2').symm
      have fba := (d1.dom ba2 (by rw [hd2.rb]; decide)).2
      exact w1.dynU ((Fr.rf _ h1).sR _ (Or.inr (Or.inr (Or.inr (Or.inr (Or.inr fba)))))) (wf1.of rfl rfl) rfl (by rw [e_I_sR]; exact w1.um) ⟨_, d2⟩
    · obtain ⟨B2, o2, ba2, rB2, hd2, hm2, row2⟩ := d1.cur
      have e1 : B2 = B1 := Option.some.inj (rB2.symm.trans cv1.rB)
      subst e1
      have e2 : ba2 = ba1 := Option.some.inj (hd2.r.symm.trans cv1.rb)
      subst e2
      have fba := (d1.dom ba2 (by rw [hd2.rb]; decide)).2
      exact (x1.mono fun a j z => KW_DC z).sR _ (Or.inr (Far_DC fba))
    · show e_n h1 ≤ _; omega
    · show e_u h1 ≤ _; omega
  · have : ¬ S.c.d.wrong S.c.m S.c.bd k P ≤ 0 := by rw [i_nle]; exact fun z => z hz1
    rw [if_neg this, if_neg hz2]
    exact Ok.ret ⟨rfl, w, Fr.rf _ h, Nat.le_add_right _ _, Nat.le_add_right _ _⟩
theorem Fr.kpD {h h' : e_H} (x : Fr (DC b) h h') (hn : b + 62 ≤ e_n h) (h1 : e_n h' ≤ e_n h + 1000) (h2 : e_u h' ≤ e_u h + 20000) : Kp b h h' :=
  x.kp hn (fun a j z => z.2) h1 h2
/-- an int put into an array of a band -/
theorem IsBd.setC {h : e_H} {a xs ys : Nat} {P : Bd} (g : IsBd h a xs ys P) (n1 : xs ≠ ys) {i : Nat} (hi : i < P.n) (u v : Int32) : IsBd (e_sI (e_sI h xs i u) ys i v) a xs ys (P.setC i u v) := by
  have na : a ≠ xs := fun e => by have := g.k; rw [e, g.kx] at this; cases this
  have nb : a ≠ ys := fun e => by have := g.k; rw [e, g.ky] at this; cases this
  refine ⟨g.k, g.rx, g.ry, g.kx, g.ky, ?_, g.le, fun j hj => ?_, fun j hj => ?_⟩
  · rw [e_I_sI, if_neg (fun z => nb z.1), e_I_sI, if_neg (fun z => na z.1)]; exact g.n
  · have hj : j < P.n := hj
    rw [e_I_sI, if_neg (fun z => n1 z.1), e_I_sI, setC_x]
    by_cases z : j = i
    · rw [if_pos ⟨rfl, z⟩, if_pos z]
    · rw [if_neg (fun y => z y.2), if_neg z]; exact g.x j hj
  · have hj : j < P.n := hj
    rw [e_I_sI, setC_y]
    by_cases z : j = i
    · rw [if_pos ⟨rfl, z⟩, if_pos z]
    · rw [if_neg (fun y => z y.2), e_I_sI, if_neg (fun y => n1 y.1.symm), if_neg z]; exact g.y j hj
theorem RC.nmOf {h : e_H} (w : RC A b h S) {k : Nat} (hk : k < S.c.m) : ∃ B o ba a xs ys, CV h b B o ba S.c ∧ e_aA h ba 4 (nI k) = some a ∧ IsBd h a xs ys (S.c.bd k) ∧ e_J h a 3 = e256 (S.c.bd k).nm := by
  obtain ⟨rl, d⟩ := w.dyn
  obtain ⟨B, o, ba, cv⟩ := w.view
  obtain ⟨B', o', ba', rB', hd, hm0, row⟩ := d.cur
  have e1 : B' = B := Option.some.inj (rB'.symm.trans cv.rB)
  subst e1
  have e2 : ba' = ba := Option.some.inj (hd.r.symm.trans cv.rb)
  subst e2
  obtain ⟨a, g1, xs, ys, g2, g3, -⟩ := row.b k hk
  have := row.m8
  exact ⟨B', o, ba', a, xs, ys, cv, p_aA cv.kb (by omega) (by decide) g1, g2, g3⟩
theorem RC.move {h : e_H} (w : RC A b h S) (bn : Bn S) (hF : 20 < F) (v i a : Int32) : Ok (f_X1_move F h b v i a) fun z => z.1 = S.vMove v i a ∧ RC A b z.2 (S.move v i a) ∧ Kp b h z.2 := by
  obtain ⟨B, o, ba, cv⟩ := w.view
  have hm := cv.m8
  have hn := w.sh.n
  have wf : wfH h := w.sh.wf
  unfold f_X1_move St.vMove St.move
  simp only [cv.is, cv.isCorner, Option.bind_some]
  cases q : S.c.isC v i with
  | false => exact Ok.ret ⟨rfl, w, Kp.rf b h⟩
  | true =>
    simp only [b2i, if_true, show ¬ (1 : Int32) = 0 by decide, if_false, cv.isPlace, Option.bind_some]
    cases qa : S.c.d.at' a with
    | false => exact Ok.ret ⟨rfl, w, Kp.rf b h⟩
    | true =>
      obtain ⟨k, j, rfl, rfl, hk, hj, hn8⟩ := isC_of q hm (fun j hj => cv.n8 hj)
      obtain ⟨B, o, ba, a1, xs1, ys1, cv, ea, g1, nm1⟩ := w.nmOf hk
      obtain ⟨rl, d⟩ := w.dyn
      simp only [if_true, show ¬ (1 : Int32) = 0 by decide, if_false, Bool.and_self, Im.vB, nI_clamp (show k < 2 ^ 31 by omega), nI_clamp (show j < 2 ^ 31 by omega)]
      have x0 : Fr (fun _ _ => False) h (e_mk h (.inl 6) 4) := (Fr.rf _ h).mkN _ _
      have wf0 : wfH (e_mk h (.inl 6) 4) := wf.mk _ _
      have w0 := w.fr x0 wf0 fun a j z => z.elim
      obtain ⟨B0, o0, ba0, a0, xs0, ys0, cv0, ea0, g0, nm0⟩ := w0.nmOf hk
      refine Ok.mkb (Ok.eq cv0.fB (Ok.eq cv0.fb (Ok.eq ea0 ?_)))
      -- the same band, ahead of the new cell
      have ha0 : a0 = a1 := by
        have h1 : B0 = B := by
          have := cv0.rB; rw [x0.R b 6 (by omega) id, cv.rB] at this; exact (Option.some.inj this).symm
        subst h1
        have lB : B0 < e_n h := kne wf (by rw [cv.bh.k]; simp)
        have h2 : ba0 = ba := by
          have := cv0.rb; rw [x0.R B0 0 lB id, cv.rb] at this; exact (Option.some.inj this).symm
        subst h2
        have lba : ba0 < e_n h := kne wf (by rw [cv.kb]; simp)
        have e3 := e_aA_of' cv0.kb (show k < 8 by omega) ea0
        have e4 := e_aA_of' cv.kb (show k < 8 by omega) ea
        rw [x0.R ba0 k lba id, e4] at e3
        exact (Option.some.inj e3).symm
      subst ha0
      refine Ok.bind (copyBand wf g1 nm1) fun h2 ⟨g2, nm2, x2, wf2, n2, u2⟩ => ?_
      obtain ⟨h3, hh3⟩ : ∃ z, z = e_sI h2 (e_n h + 1) j (a - a / 10 * 10) := ⟨_, rfl⟩
      obtain ⟨h4, hh4⟩ : ∃ z, z = e_sI h3 (e_n h + 2) j (a / 10) := ⟨_, rfl⟩
      refine Ok.eq g2.fx (Ok.eq (p_wI g2.kx (show j < 9 by omega) (by decide) _) ?_)
      rw [← hh3]
      have kN3 : e_k h3 (e_n h) = some (.inl 6) := by rw [hh3]; exact g2.k
      have ky3 : e_k h3 (e_n h + 2) = some (.inr (0, 9)) := by rw [hh3]; exact g2.ky
      refine Ok.eq (p_fA kN3 (by rw [hh3]; exact g2.ry)) (Ok.eq (p_wI ky3 (show j < 9 by omega) (by decide) _) ?_)
      rw [← hh4]
      have g4 : IsBd h4 (e_n h) (e_n h + 1) (e_n h + 2) ((S.c.bd k).setC j (a - a / 10 * 10) (a / 10)) := by
        rw [hh4, hh3]; exact g2.setC (by omega) hj _ _
      have x4 : Fr (fun _ _ => False) h h4 := by rw [hh4, hh3]; exact (x2.sI _ (Or.inl (by omega))).sI _ (Or.inl (by omega))
      have wf4 : wfH h4 := by rw [hh4, hh3]; exact wf2.of rfl rfl
      have n4 : e_n h4 = e_n h + 3 := by rw [hh4, hh3]; exact n2
      have u4 : e_u h4 = e_u h + 22 := by rw [hh4, hh3]; exact u2
      have w4 := w.fr x4 wf4 fun a j z => z.elim
      have d4 := d.fr wf hn x4 (fun a j z => z.elim) id id (fun _ => id) (fun _ => id)
      have nm4 : e_J h4 (e_n h) 3 = e256 ((S.c.bd k).setC j (a - a / 10 * 10) (a / 10)).nm := by rw [hh4, hh3]; exact nm2
      refine Ok.is w4.k0 (Ok.b2 (changesC w4 bn d4 hF (N := e_n h) hn (by omega) (fun a h1 h2 => ?_) g4 nm4 hk) fun u h5 ⟨c1, c2, c3, c4, c5⟩ => Ok.ret ⟨c1, c2, ?_⟩)
      · by_cases z : rl a = 0
        · exact z
        · have := (d.dom a z).1; omega
      · have c4 : e_n h5 ≤ e_n h4 + 1 := c4
        have c5 : e_u h5 ≤ e_u h4 + 8 := c5
        exact ((x4.mono fun _ _ z => z.elim).tr c3).kpD hn (by show e_n h5 ≤ _; omega) (by show e_u h5 ≤ _; omega)
end
