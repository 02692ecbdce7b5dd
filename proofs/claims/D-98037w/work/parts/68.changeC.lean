/-! PURE LAYER 29: bands changed, the component's side, 2 -/
theorem Bd.why_v (P : Bd) : P.why = 0 ∨ (0 < P.why ∧ ¬ P.why = 0) := by
  unfold Bd.why
  repeat' split
  all_goals first | exact Or.inl rfl | exact Or.inr ⟨by decide, by decide⟩
theorem Hd.wrong_why (d : Hd) (m : Nat) (bd : Nat → Bd) (k : Nat) (P : Bd) : d.wrong m bd k P = if d.wr1 P = true then 1 else if P.why = 0 then (if d.wr5 m bd k P = true then 5 else 0) else P.why := by
  unfold Hd.wrong Bd.why
  by_cases h1 : d.wr1 P = true
  · simp [h1]
  · by_cases h2 : P.w2 = true
    · simp [h1, h2]
    · by_cases h3 : P.w3 = true
      · simp [h1, h2, h3]
      · by_cases h4 : P.w4 = true
        · simp [h1, h2, h3, h4]
        · simp [h1, h2, h3, h4]
theorem CV.why {h : e_H} {b B o ba : Nat} {c : Im} (w : CV h b B o ba c) {a xs ys : Nat} {P : Bd} (g : IsBd h a xs ys P) {F : Nat} (hF : 9 < F) {but : Int32} {k : Nat} (hk : ∀ o, o < c.m → (nI o = but ↔ o = k)) : f_X3_why F h B a but = some (c.d.wrong c.m c.bd k P) := by
  have h8 := g.le
  have m8 := w.m8
  have l1 : lp_X3_why_2 F h B a F 0 = some (if c.d.wr1 P = true then .error 1 else .ok ()) := by
    refine lp_any (lp := lp_X3_why_2 F h B a) nI _ P.n _ _ (fun i hi f => ?_) (fun f => ?_) (by omega)
    · simp only [lp_X3_why_2, g.fn, g.nle hi, if_false, g.fx, g.fy, g.ax hi, g.ay hi, w.isd, w.bh.isPeg, Option.bind_some, ← nI_succ, b2i_0]
      cases c.d.peg (P.x i) (P.y i) <;> rfl
    · simp only [lp_X3_why_2, g.fn, Option.bind_some, Int32.le_refl, if_true]
  have l2 : c.d.bell = false → lp_X3_why_58 F h B a but F 0 = some (if c.d.wr5 c.m c.bd k P = true then .error 5 else .ok ()) := by
    intro hb
    unfold Hd.wr5
    rw [hb]
    simp only [Bool.not_false, Bool.true_and]
    refine lp_any (lp := lp_X3_why_58 F h B a but) nI _ c.m _ _ (fun o' ho f => ?_) (fun f => ?_) (by omega)
    · obtain ⟨a2, xs2, ys2, g1, g2⟩ := w.bd ho
      simp only [lp_X3_why_58, w.fm, w.nle ho, if_false, Option.bind_some, ← nI_succ]
      by_cases q : o' = k
      · rw [if_pos ((hk o' ho).mpr q)]
        simp [q, bE_o]
      · rw [if_neg (fun z => q ((hk o' ho).mp z))]
        simp only [w.fb, g1, g.isClear hF g2, Option.bind_some]
        cases P.clear (c.bd o') <;> simp [q, b2i, bE_o, bE_e]
    · simp only [lp_X3_why_58, w.fm, Option.bind_some, Int32.le_refl, if_true]
  rw [Hd.wrong_why]
  simp only [f_X3_why, l1]
  by_cases h1 : c.d.wr1 P = true
  · simp only [h1, if_true, bE_e]
  · simp only [h1, if_false, bE_o, g.is, g.why hF, Option.bind_some, Bool.false_eq_true]
    rcases P.why_v with h2 | ⟨h2, h3⟩
    · rw [h2, if_neg (by decide), if_pos rfl, p_fI w.bh.k, w.bh.bell]
      simp only [Option.bind_some]
      cases hb : c.d.bell with
      | true =>
        have : c.d.wr5 c.m c.bd k P = false := by unfold Hd.wr5; rw [hb]; rfl
        rw [this]; rfl
      | false =>
        rw [if_pos (show b2i false = 0 from rfl), l2 hb]
        cases c.d.wr5 c.m c.bd k P <;> rfl
    · rw [if_pos h2, if_neg h3]
/-- a band copied -/
theorem copyBand {h : e_H} (wf : wfH h) {a xs ys : Nat} {P : Bd} (g : IsBd h a xs ys P) (nm : e_J h a 3 = e256 P.nm) :
    Ok (f_X8_init_2 (e_mk h (.inl 6) 4) (e_n h) a) fun h' => IsBd h' (e_n h) (e_n h + 1) (e_n h + 2) P ∧ e_J h' (e_n h) 3 = e256 P.nm ∧ Fr (fun _ _ => False) h h' ∧ wfH h' ∧ e_n h' = e_n h + 3 ∧ e_u h' = e_u h + 22 := by
  obtain ⟨la, lx, ly⟩ := g.lt wf
  have h8 := g.le
  obtain ⟨N, hN⟩ : ∃ N, N = e_n h := ⟨_, rfl⟩
  rw [← hN]
  obtain ⟨g3, hg3⟩ : ∃ z, z = e_sR (e_mk (e_sR (e_mk (e_mk h (.inl 6) 4) (.inr (0, 9)) 9) N 0 (some (N + 1))) (.inr (0, 9)) 9) N 1 (some (N + 2)) := ⟨_, rfl⟩
  have k1 : e_k (e_mk (e_mk h (.inl 6) 4) (.inr (0, 9)) 9) N = some (.inl 6) := by
    rw [e_k_mk, if_neg (by rw [e_n_mk]; omega), e_k_mk, if_pos hN]
  have k2 : e_k (e_mk (e_sR (e_mk (e_mk h (.inl 6) 4) (.inr (0, 9)) 9) N 0 (some (N + 1))) (.inr (0, 9)) 9) N = some (.inl 6) := by
    rw [e_k_mk, if_neg (by rw [e_n_sR, e_n_mk, e_n_mk]; omega), e_k_sR]; exact k1
  have kN : e_k g3 N = some (.inl 6) := by rw [hg3]; exact k2
  have kx : e_k g3 (N + 1) = some (.inr (0, 9)) := by
    rw [hg3, e_k_sR, e_k_mk, if_neg (by rw [e_n_sR, e_n_mk, e_n_mk]; omega), e_k_sR, e_k_mk, if_pos (by rw [e_n_mk]; omega)]
  have ky : e_k g3 (N + 2) = some (.inr (0, 9)) := by
    rw [hg3, e_k_sR, e_k_mk, if_pos (by rw [e_n_sR, e_n_mk, e_n_mk]; omega)]
  have rx : e_R g3 N 0 = some (N + 1) := by
    rw [hg3, e_R_sR, if_neg (by omega), e_R_mk, if_neg (by rw [e_n_sR, e_n_mk, e_n_mk]; omega), e_R_sR, if_pos ⟨rfl, rfl⟩]
  have ry : e_R g3 N 1 = some (N + 2) := by rw [hg3, e_R_sR, if_pos ⟨rfl, rfl⟩]
  have x3 : Fr (fun _ _ => False) h g3 := by
    rw [hg3]
    exact (((((Fr.rf _ h).mkN _ _).mkN _ _).sR _ (Or.inl (by omega))).mkN _ _).sR _ (Or.inl (by omega))
  have wf3 : wfH g3 := by
    rw [hg3]
    exact (((wf.mk _ _).mk _ _).of (h' := e_sR _ _ _ _) rfl rfl |>.mk _ _).of (h' := e_sR _ _ _ _) rfl rfl
  have n3 : e_n g3 = N + 3 := by rw [hg3, hN]; rfl
  have u3 : e_u g3 = e_u h + 22 := by rw [hg3]; rfl
  have gg := g.fr wf x3 (fun _ => id) (fun _ => id) (fun _ => id)
  have e0 : f_X8_init_2 (e_mk h (.inl 6) 4) N a = Option.bind (f_X8_be g3 N a) some := by
    unfold f_X8_init_2
    have n9 : e_nat 9 = some 9 := rfl
    rw [n9]
    simp only [Option.bind_some, e_mkb, e_n_mk]
    rw [show e_n h + 1 = N + 1 by omega, p_gR k1]
    simp only [Option.bind_some, e_n_sR, e_n_mk]
    rw [show e_n h + 1 + 1 = N + 2 by omega, p_gR k2, ← hg3]
    simp only [Option.bind_some, p_is kN]
  rw [e0]
  refine Ok.bind (R := fun h' => IsBd h' N (N + 1) (N + 2) P ∧ e_J h' N 3 = e256 P.nm ∧ Fr (fun _ _ => False) h h' ∧ wfH h' ∧ e_n h' = N + 3 ∧ e_u h' = e_u h + 22) ?_ fun h' q => Ok.ret q
  unfold f_X8_be
  have cp1 := p_cpI (h := g3) (s := xs) (d := N + 1) (n := 8) gg.kx kx (by decide) (by decide) (by decide)
  obtain ⟨g4, hg4⟩ : ∃ z, z = e_cI g3 xs 0 (N + 1) 0 8 := ⟨_, rfl⟩
  rw [← hg4] at cp1
  have x4 : Fr (fun _ _ => False) h g4 := by rw [hg4]; exact x3.cI (Or.inl (by omega))
  have gg4 := g.fr wf x4 (fun _ => id) (fun _ => id) (fun _ => id)
  have ky4 : e_k g4 (N + 2) = some (.inr (0, 9)) := by rw [hg4]; exact ky
  have kN4 : e_k g4 N = some (.inl 6) := by rw [hg4]; exact kN
  have cp2 := p_cpI (h := g4) (s := ys) (d := N + 2) (n := 8) gg4.ky ky4 (by decide) (by decide) (by decide)
  obtain ⟨g5, hg5⟩ : ∃ z, z = e_cI g4 ys 0 (N + 2) 0 8 := ⟨_, rfl⟩
  rw [← hg5] at cp2
  have x5 : Fr (fun _ _ => False) h g5 := by rw [hg5]; exact x4.cI (Or.inl (by omega))
  have gg5 := g.fr wf x5 (fun _ => id) (fun _ => id) (fun _ => id)
  have kN5 : e_k g5 N = some (.inl 6) := by rw [hg5]; exact kN4
  refine Ok.eq gg.fx (Ok.eq (p_fA kN rx) (Ok.eq cp1 (Ok.eq gg4.fy (Ok.eq (p_fA kN4 (by rw [hg4]; exact ry)) (Ok.eq cp2 (Ok.eq gg5.fn (Ok.gI kN5 ?_)))))))
  have ka6 : e_k (e_sI g5 N 2 (nI P.n)) a = some (.inl 6) := gg5.k
  have kN6 : e_k (e_sI g5 N 2 (nI P.n)) N = some (.inl 6) := kN5
  refine Ok.eq (v := e256 P.nm) (by rw [p_fJ ka6]; show some (e_J g5 a 3) = _; rw [x5.J a 3 la id, nm]) (Ok.gJ kN6 (Ok.ret ⟨⟨kN6, ?_, ?_, ?_, ?_, ?_, h8, fun i hi => ?_, fun i hi => ?_⟩, ?_, ?_, ?_, ?_, ?_⟩))
  · rw [e_R_sJ, e_R_sI, hg5, e_R_cI, hg4, e_R_cI]; exact rx
  · rw [e_R_sJ, e_R_sI, hg5, e_R_cI, hg4, e_R_cI]; exact ry
  · rw [e_k_sJ, e_k_sI, hg5, e_k_cI, hg4, e_k_cI]; exact kx
  · rw [e_k_sJ, e_k_sI, hg5, e_k_cI, hg4, e_k_cI]; exact ky
  · rw [e_I_sJ, e_I_sI, if_pos ⟨rfl, rfl⟩]
  · rw [e_I_sJ, e_I_sI, if_neg (by omega), hg5, e_I_cI, if_neg (by omega), hg4, e_I_cI, if_pos ⟨rfl, by omega, by omega⟩, show 0 + (i - 0) = i by omega]
    exact gg.x i hi
  · rw [e_I_sJ, e_I_sI, if_neg (by omega), hg5, e_I_cI, if_pos ⟨rfl, by omega, by omega⟩, show 0 + (i - 0) = i by omega]
    exact gg4.y i hi
  · rw [e_J_sJ, if_pos ⟨rfl, rfl⟩]
  · exact (x5.sI _ (Or.inl (by omega))).sJ _ (Or.inl (by omega))
  · refine wfH.of (h := g3) wf3 ?_ ?_
    · rw [hg5, hg4]; rfl
    · rw [hg5, hg4]; rfl
  · show e_n g5 = _; rw [hg5, hg4]; exact n3
  · show e_u g5 = _; rw [hg5, hg4]; exact u3
/-- roles with a new band -/
def rlB (rl : Nat → Nat) (N : Nat) (a : Nat) : Nat := if N ≤ a ∧ a < N + 3 then 1 else rl a
section
variable {A : Nat → Nat} {b F : Nat} {S : St} {rl : Nat → Nat}
/-- a new band comes into the board's row -/
theorem RD.setB {h : e_H} (wf : wfH h) (hn : b + 62 ≤ e_n h) (d : RD rl b h S) {N : Nat} (hN : b + 62 ≤ N) (hN3 : N + 3 ≤ e_n h) (r0 : ∀ a, N ≤ a → a < N + 3 → rl a = 0) {P : Bd} (g : IsBd h N (N + 1) (N + 2) P) (nm : e_J h N 3 = e256 P.nm) {B ba : Nat} (rB : e_R h b 6 = some B) (rb : e_R h B 0 = some ba)
    {k m' : Nat} (hk : k < m') (hm' : m' = S.c.m ∨ (m' = S.c.m + 1 ∧ k = S.c.m)) (m8 : m' ≤ 8) {h' : e_H} (hh : h' = e_sI (e_sR h ba k (some N)) B 4 (nI m')) : RD (rlB rl N) b h' (St.mk S.tl S.tp S.fault S.why ((Im.mk S.c.d (m') (putB S.c.bd k P) S.c.c S.c.lm S.c.la S.c.lb S.c.sn)) S.um S.ud S.fm S.fo S.xm S.tx S.im) := by
  obtain ⟨B', o, ba', rB', hd, hm, row⟩ := d.cur
  have e1 : B' = B := Option.some.inj (rB'.symm.trans rB)
  subst e1
  have e2 : ba' = ba := Option.some.inj (hd.r.symm.trans rb)
  subst e2
  have fB := d.dom B' (by rw [hd.rB]; decide)
  have fba := d.dom ba' (by rw [hd.rb]; decide)
  have BN : ¬ (N ≤ B' ∧ B' < N + 3) := fun z => by have := r0 B' z.1 z.2; rw [hd.rB] at this; cases this
  have baN : ¬ (N ≤ ba' ∧ ba' < N + 3) := fun z => by have := r0 ba' z.1 z.2; rw [hd.rb] at this; cases this
  have Bba : B' ≠ ba' := fun e => by have := hd.bh.k; rw [e, hd.k] at this; cases this
  have k' : ∀ a, e_k h' a = e_k h a := fun a => by rw [hh]; rfl
  have I' : ∀ a j, (a ≠ B' ∨ j ≠ 4) → e_I h' a j = e_I h a j := fun a j z => by rw [hh, e_I_sI, if_neg (by omega), e_I_sR]
  have J' : ∀ a, e_J h' a = e_J h a := fun a => by rw [hh]; rfl
  have R' : ∀ a j, a ≠ ba' → e_R h' a j = e_R h a j := fun a j z => by rw [hh, e_R_sI, e_R_sR, if_neg (fun y => z y.1)]
  have up : ∀ a v, rl a = v → v ≠ 0 → rlB rl N a = v := fun a v h1 h2 => by
    unfold rlB
    rw [if_neg (fun z => h2 (by rw [← h1]; exact r0 a z.1 z.2))]; exact h1
  have ev : Ev rl (rlB rl N) h h' := by
    refine ⟨fun a _ => k' a, fun a ha => ⟨up a 1 ha (by decide), ?_, J' a, ?_⟩⟩
    · funext j
      exact I' a j (Or.inl fun e => by rw [e, hd.rB] at ha; cases ha)
    · funext j
      exact R' a j fun e => by rw [e, hd.rb] at ha; cases ha
  have gN : CB (rlB rl N) h' N P := by
    have i1 : ∀ a, N ≤ a → a < N + 3 → e_I h' a = e_I h a := fun a h1 h2 => funext fun j => I' a j (Or.inl fun e => BN (by rw [← e]; exact ⟨h1, h2⟩))
    have i2 : ∀ a, N ≤ a → a < N + 3 → e_R h' a = e_R h a := fun a h1 h2 => funext fun j => R' a j fun e => baN (by rw [← e]; exact ⟨h1, h2⟩)
    refine ⟨N + 1, N + 2, g.ev (fun c _ => k' c) (by rw [i1 N (by omega) (by omega)]) (by rw [i2 N (by omega) (by omega)]) (by rw [i2 N (by omega) (by omega)]) (i1 _ (by omega) (by omega)) (i1 _ (by omega) (by omega)), by rw [J']; exact nm, ?_, ?_, ?_⟩ <;> (unfold rlB; rw [if_pos (by omega)])
  have Rba : ∀ j, e_R h' ba' j = if j = k then some N else e_R h ba' j := fun j => by
    rw [hh, e_R_sI, e_R_sR]
    by_cases z : j = k
    · rw [if_pos ⟨rfl, z⟩, if_pos z]
    · rw [if_neg (fun y => z y.2), if_neg z]
  refine ⟨fun a ha => ?_, ⟨B', o, ba', by rw [R' b 6 (by omega)]; exact rB, hd.ev ev (funext fun j => R' B' j Bba) (fun j hj => I' B' j (Or.inr hj)) (up B' 2 hd.rB (by decide)) (up ba' 2 hd.rb (by decide)), by rw [hh, e_I_sI, if_pos ⟨rfl, rfl⟩]; rfl, ⟨by rw [k']; exact hd.k, m8, fun i hi => ?_, fun i hi => ?_⟩⟩, fun i hi => ?_, ?_, fun q hq => ⟨fun hs => ?_, fun c hc => ?_⟩⟩
  · have nh : e_n h' = e_n h := by rw [hh]; rfl
    by_cases z : N ≤ a ∧ a < N + 3
    · exact ⟨by omega, by omega⟩
    · unfold rlB at ha
      rw [if_neg z] at ha
      exact ⟨by rw [nh]; exact (d.dom a ha).1, (d.dom a ha).2⟩
  · have hi : i < m' := hi
    rw [Rba]
    show ∃ a, _ ∧ CB _ h' a (putB S.c.bd k P i)
    by_cases z : i = k
    · rw [if_pos z, z, putB_k]
      exact ⟨N, rfl, gN⟩
    · rw [if_neg z, putB_ne _ _ z]
      obtain ⟨a, g1, g2⟩ := row.b i (by omega)
      exact ⟨a, g1, g2.ev ev⟩
  · rw [Rba]
    by_cases z : i = k
    · rw [if_pos z]
      exact Or.inr ⟨N, rfl, by rw [k']; exact g.k⟩
    · rw [if_neg z]
      exact (row.f i hi).ev fun a _ => k' a
  · obtain ⟨r, h1, h2, h3, h4, h5⟩ := d.und i hi
    refine ⟨r, by rw [R' _ _ (by omega)]; exact h1, up r 1 h2 (by decide), ev.k' h3, h4, fun j hj => ?_⟩
    obtain ⟨a, g1, g2⟩ := h5 j hj
    exact ⟨a, by rw [(ev.s r h2).2.2.2]; exact g1, g2.ev ev⟩
  · show CSnO _ h' S.c.sn (e_R h' b 35)
    rw [R' b 35 (by omega)]; exact d.sen.ev ev
  · rw [R' _ _ (by omega)]; exact (d.img q hq).1 hs
  · obtain ⟨a, g1, g2⟩ := (d.img q hq).2 c hc
    refine ⟨a, by rw [R' _ _ (by omega)]; exact g1, g2.ev ev (fun p hp => ⟨up p _ hp (by omega), ?_, ?_⟩) (fun B2 hB => ⟨up B2 2 hB (by decide), fun hk2 => ⟨?_, fun j hj => I' B2 j (Or.inr hj)⟩⟩)⟩
    · funext j
      exact I' p j (Or.inl fun e => by rw [e, hd.rB] at hp; omega)
    · funext j
      exact R' p j fun e => by rw [e, hd.rb] at hp; omega
    · funext j
      exact R' B2 j fun e => by rw [e, hd.k] at hk2; cases hk2
end
