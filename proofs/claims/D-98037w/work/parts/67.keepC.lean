/-! PURE LAYER 28: bands changed, the component's side -/
/-- the far places and what holds on to them -/
def DW (b a j : Nat) : Prop := CW b a j ∨ (a = b ∧ (j = 19 ∨ j = 6 ∨ j = 35)) ∨ a = b + 19 ∨ a = b + 32 ∨ Far b a
theorem cR_DW {b : Nat} : ∀ q ∈ cR, ¬ DW b (b + q.1) q.2.1 := by
  intro q hq
  have h1 := cR_CW (b := b) q hq
  have : ∀ q ∈ cR, q.1 ≠ 19 ∧ q.1 ≠ 32 ∧ q.1 ≠ 4 ∧ q.1 ≠ 5 ∧ q.1 ≠ 6 ∧ q.1 < 33 ∧ ¬ (q.1 = 0 ∧ (q.2.1 = 19 ∨ q.2.1 = 6 ∨ q.2.1 = 35)) := by decide
  have := this q hq
  unfold DW Far
  rintro (z | z | z | z | z)
  · exact h1 z
  all_goals omega
theorem RC.dynU {A : Nat → Nat} {b : Nat} {h h' : e_H} {S S' : St} (w : RC A b h S) (x : Fr (DW b) h h') (wf : wfH h') (hS : S' = (St.mk S.tl S.tp S.fault S.why ((Im.mk S.c.d (S'.c.m) (S'.c.bd) S.c.c S.c.lm S.c.la S.c.lb S.c.sn)) (S'.um) (S'.ud) S.fm S.fo S.xm S.tx S.im)) (um : e_I h' b 19 = nI S'.um) (dyn : ∃ rl, RD rl b h' S') : RC A b h' S' := by
  have hn := w.sh.n
  have cw := cR_DW (b := b)
  have hk : ∀ a, e_k h a ≠ none → e_k h' a = e_k h a := fun a ha => x.k a (kne w.sh.wf ha)
  rw [hS] at dyn
  rw [hS]
  exact ⟨(w.sh.fr x wf cw (fun j => by unfold DW Far CW; omega) (fun j => by unfold DW Far CW; omega) (by unfold DW Far CW; omega) (by unfold DW Far CW; omega) (by unfold DW Far CW; omega)),
    ((x.I (b) 1 (by omega) (by unfold DW Far CW; omega)).trans w.tl),
    (fun i hi => (x.I (b + 1) i (by omega) (by unfold DW Far CW; omega)).trans (w.tp i hi)),
    ((x.I (b) 11 (by omega) (by unfold DW Far CW; omega)).trans w.fault),
    ((x.I (b) 12 (by omega) (by unfold DW Far CW; omega)).trans w.why),
    ((x.I (b) 17 (by omega) (by unfold DW Far CW; omega)).trans w.fm),
    (fun i hi => (x.I (b + 18) i (by omega) (by unfold DW Far CW; omega)).trans (w.fo i hi)),
    (um),
    ((x.I (b) 21 (by omega) (by unfold DW Far CW; omega)).trans w.xm),
    (fun i hi => (x.I (b + 20) i (by omega) (by unfold DW Far CW; omega)).trans (w.tx i hi)),
    ((x.I (b) 33 (by omega) (by unfold DW Far CW; omega)).trans w.lm),
    (w.ln.ev hk (funext fun j => (x.I (b + 28) j (by omega) (by unfold DW Far CW; omega))) (funext fun j => (x.I (b + 29) j (by omega) (by unfold DW Far CW; omega)))),
    (w.cl.ev hk (x.R (b + 7) 0 (by omega) (by unfold DW Far CW; omega)) (x.R (b + 7) 1 (by omega) (by unfold DW Far CW; omega)) (x.I (b + 7) 2 (by omega) (by unfold DW Far CW; omega)) (x.I (b + 7) 3 (by omega) (by unfold DW Far CW; omega)) (x.I (b + 7) 4 (by omega) (by unfold DW Far CW; omega)) (funext fun j => (x.I (b + 8) j (by omega) (by unfold DW Far CW; omega))) (funext fun j => (x.I (b + 9) j (by omega) (by unfold DW Far CW; omega)))),
    (dyn)⟩
theorem fit4 {h : e_H} {r : Option Nat} (w : fitR h r) : e_fitb h 4 r = true := by
  rcases w with rfl | ⟨a, rfl, hk⟩
  · rfl
  · unfold e_fitb; simp only; rw [hk]; rfl
theorem p_cpR {h : e_H} {t s d p q n m1 m2 : Nat} (k1 : e_k h s = some (.inr (t, m1))) (k2 : e_k h d = some (.inr (t, m2))) (h1 : p + n ≤ m1) (h2 : q + n ≤ m2) (hm1 : m1 < 2 ^ 31) (hm2 : m2 < 2 ^ 31) (hf : ∀ j, j < n → e_fitb h t (e_R h s (p + j)) = true) : e_cpR h t s (nI p) d (nI q) (nI n) = some (e_cR h s p d q n) := by
  unfold e_cpR
  rw [e_len_eq k1, e_len_eq k2]
  simp only [nI_clamp (show p < 2 ^ 31 by omega), nI_clamp (show q < 2 ^ 31 by omega), nI_clamp (show n < 2 ^ 31 by omega)]
  rw [if_neg]
  rintro (z | z | z | z | z | z)
  · exact nI_pos (by omega) z
  · exact nI_pos (by omega) z
  · exact nI_pos (by omega) z
  · omega
  · omega
  · apply z
    rw [List.all_eq_true]
    intro j hj
    exact hf j (List.mem_range.mp hj)
theorem p_wR {h : e_H} {a t n j : Nat} {v : Option Nat} (hk : e_k h a = some (.inr (t, n))) (hj : j < n) (hn : n < 2 ^ 31) (hf : e_fitb h t v = true) : e_wR h a t (nI j) v = some (e_sR h a j v) := by
  unfold e_wR
  rw [p_ix hk hj hn]
  simp only [Option.bind_some, hf, if_true]
/-- the places that keep() changes -/
def KW (b a j : Nat) : Prop := (a = b ∧ j = 19) ∨ a = b + 19
section
variable {A : Nat → Nat} {b F : Nat} {S : St} {rl : Nat → Nat}
theorem keepC {h : e_H} (w : RC A b h S) (bn : Bn S) (d : RD rl b h S) :
    Ok (f_X1_keep h b) fun h' => RC A b h' S.keep ∧ RD (fun a => if a = e_n h then 1 else rl a) b h' S.keep ∧ Fr (KW b) h h' ∧ wfH h' ∧ e_n h' = e_n h + 1 ∧ e_u h' ≤ e_u h + 8 := by
  have hn := w.sh.n
  have hu8 := bn.um
  have wf : wfH h := w.sh.wf
  obtain ⟨B, o, ba, rB, hd, hm, row⟩ := d.cur
  have m8 := row.m8
  have k0 := w.k0
  obtain ⟨r, hr⟩ : ∃ r, r = e_n h := ⟨_, rfl⟩
  have lB : B < e_n h := (d.dom B (by rw [hd.rB]; decide)).1
  have fB := (d.dom B (by rw [hd.rB]; decide)).2
  have lba : ba < e_n h := (d.dom ba (by rw [hd.rb]; decide)).1
  have fba := (d.dom ba (by rw [hd.rb]; decide)).2
  obtain ⟨i0, hi0⟩ : ∃ i, i = (if S.um = 8 then 7 else S.um) := ⟨_, rfl⟩
  have i07 : i0 ≤ 7 := by rw [hi0]; split <;> omega
  -- the row
  obtain ⟨h7, hh7⟩ : ∃ z, z = e_mk h (.inr (4, S.c.m)) S.c.m := ⟨_, rfl⟩
  have x7 : Fr (fun _ _ => False) h h7 := by rw [hh7]; exact (Fr.rf _ h).mkN _ _
  have wf7 : wfH h7 := by rw [hh7]; exact wf.mk _ _
  have kr7 : e_k h7 r = some (.inr (4, S.c.m)) := by rw [hh7, e_k_mk, hr, if_pos rfl]
  have kba7 : e_k h7 ba = some (.inr (4, 8)) := by rw [x7.k ba lba]; exact hd.k
  have cp1 : e_cpR h7 4 ba 0 r 0 (nI S.c.m) = some (e_cR h7 ba 0 r 0 S.c.m) := by
    refine p_cpR (p := 0) (q := 0) kba7 kr7 (by omega) (by omega) (by decide) (by omega) fun j hj => ?_
    rw [Nat.zero_add, x7.R ba j lba id]
    exact fit4 ((row.f j (by omega)).ev fun a ha => x7.k a (kne wf ha))
  obtain ⟨h28, hh28⟩ : ∃ z, z = e_cR h7 ba 0 r 0 S.c.m := ⟨_, rfl⟩
  rw [← hh28] at cp1
  have x28 : Fr (fun _ _ => False) h h28 := by rw [hh28]; exact x7.cR (Or.inl (by omega))
  have wf28 : wfH h28 := by rw [hh28]; exact wf7.of rfl rfl
  have n28 : e_n h28 = e_n h + 1 := by rw [hh28]; show e_n h7 = _; rw [hh7]; rfl
  have u28 : e_u h28 = e_u h + S.c.m := by rw [hh28]; show e_u h7 = _; rw [hh7]; rfl
  have kr28 : e_k h28 r = some (.inr (4, S.c.m)) := by rw [hh28]; exact kr7
  have R28 : ∀ j, j < S.c.m → e_R h28 r j = e_R h ba j := fun j hj => by
    rw [hh28, e_R_cR, if_pos ⟨rfl, by omega, by omega⟩, show 0 + (j - 0) = j by omega]
    exact x7.R ba j lba id
  have k28 : e_k h28 b = some (.inl 0) := by rw [x28.k b (by omega)]; exact k0
  have k19 : e_k h28 (b + 19) = some (.inr (5, 8)) := by rw [x28.k _ (by omega)]; exact w.kk 19 _ (by simp [cK])
  have f18 : ∀ {g : e_H}, e_k g b = some (.inl 0) → e_R g b 18 = e_R h b 18 → e_fA g b 0 18 = some (b + 19) := fun z1 z2 => p_fA z1 (by rw [z2]; exact w.r0 18 19 (by decide))
  have i28 : e_I h28 b 19 = nI S.um := by rw [x28.I b 19 (by omega) id]; exact w.um
  -- the shift
  have mid : Ok (if nI S.um = 8 then Option.bind (e_fA h28 b 0 18) (fun x41 => Option.bind (e_fA h28 b 0 18) (fun x46 => Option.bind (e_cpR h28 5 x41 1 x46 0 7) (fun h52 => Option.bind (e_fI h52 b 0 19) (fun x57 => Option.bind (e_gI h52 b 0 19 (x57 - 1)) (fun h62 => some h62))))) else some h28) fun h65 => Fr (KW b) h h65 ∧ wfH h65 ∧ e_n h65 = e_n h + 1 ∧ e_u h65 = e_u h28 ∧ e_I h65 b 19 = nI i0 ∧ e_k h65 r = some (.inr (4, S.c.m)) ∧ (∀ j, e_R h65 r j = e_R h28 r j) ∧ ∀ j, j < i0 → e_R h65 (b + 19) j = if S.um = 8 then e_R h (b + 19) (j + 1) else e_R h (b + 19) j := by
    refine Ok.ite (fun hc => ?_) (fun hc => ?_)
    · have q : S.um = 8 := p_inj (by omega) (by omega) hc
      have h07 : i0 = 7 := by rw [hi0, if_pos q]
      have cp2 : e_cpR h28 5 (b + 19) 1 (b + 19) 0 7 = some (e_cR h28 (b + 19) 1 (b + 19) 0 7) := by
        refine p_cpR (p := 1) (q := 0) (n := 7) k19 k19 (by decide) (by decide) (by decide) (by decide) fun j hj => ?_
        rw [x28.R _ _ (by omega) id]
        obtain ⟨r', g1, g2, g3, g4⟩ := d.und (1 + j) (by omega)
        rw [g1]
        unfold e_fitb
        simp only
        rw [x28.k r' (kne wf (by rw [g3]; simp)), g3]
        rfl
      refine Ok.eq (f18 k28 (x28.R _ _ (by omega) id)) (Ok.eq (f18 k28 (x28.R _ _ (by omega) id)) (Ok.eq cp2 ?_))
      have kc : e_k (e_cR h28 (b + 19) 1 (b + 19) 0 7) b = some (.inl 0) := k28
      refine Ok.eq (v := nI 8) (by rw [p_fI kc]; show some (e_I h28 b 19) = _; rw [i28, q]) (Ok.gI kc (Ok.ret ⟨?_, ?_, n28, rfl, ?_, kr28, fun j => ?_, fun j hj => ?_⟩))
      · exact ((x28.mono fun _ _ z => z.elim).cR (Or.inr fun j _ _ => by unfold KW; omega)).sI _ (by unfold KW; omega)
      · exact wf28.of rfl rfl
      · rw [e_I_sI, if_pos ⟨rfl, rfl⟩, h07]; rfl
      · rw [e_R_sI, e_R_cR, if_neg (by omega)]
      · rw [e_R_sI, e_R_cR, if_pos ⟨rfl, by omega, by omega⟩, if_pos q, show 1 + (j - 0) = j + 1 by omega]
        exact x28.R _ _ (by omega) id
    · have q : ¬ S.um = 8 := fun e => hc (by rw [e]; rfl)
      refine Ok.ret ⟨x28.mono fun _ _ z => z.elim, wf28, n28, rfl, by rw [i28, hi0, if_neg q], kr28, fun j => rfl, fun j hj => ?_⟩
      rw [if_neg q]
      exact x28.R _ _ (by omega) id
  unfold f_X1_keep
  have nat8 : e_nat (nI S.c.m) = some S.c.m := by
    unfold e_nat
    rw [nI_clamp (by omega), if_neg]
    rintro (z | z)
    · exact nI_pos (by omega) z
    · omega
  refine Ok.eq (p_fA k0 rB) (Ok.eq (v := nI S.c.m) (by rw [p_fI hd.bh.k, hm]) (Ok.eq nat8 (Ok.mkb ?_)))
  rw [← hr, ← hh7]
  have kb7 : e_k h7 b = some (.inl 0) := by rw [x7.k b (by omega)]; exact k0
  have fB7 : e_fA h7 b 0 6 = some B := p_fA kb7 (by rw [x7.R b 6 (by omega) id]; exact rB)
  have kB7 : e_k h7 B = some (.inl 2) := by rw [x7.k B lB]; exact hd.bh.k
  refine Ok.eq fB7 (Ok.eq (p_fA kB7 (by rw [x7.R B 0 lB id]; exact hd.r)) (Ok.eq fB7 (Ok.eq (v := nI S.c.m) (by rw [p_fI kB7, x7.I B 4 lB id, hm]) (Ok.eq cp1 (Ok.eq (v := nI S.um) (by rw [p_fI k28, i28]) ?_)))))
  refine Ok.bind mid fun h65 ⟨x65, wf65, n65, u65, i65, kr65, Rr65, R65⟩ => ?_
  have k65 : e_k h65 b = some (.inl 0) := by rw [x65.k b (by omega)]; exact k0
  have k1965 : e_k h65 (b + 19) = some (.inr (5, 8)) := by rw [x65.k _ (by omega)]; exact w.kk 19 _ (by simp [cK])
  have fr65 : e_fitb h65 5 (some r) = true := by unfold e_fitb; simp only; rw [kr65]; rfl
  refine Ok.eq (f18 k65 (x65.R _ _ (by omega) (by unfold KW; omega))) (Ok.eq (v := nI i0) (by rw [p_fI k65, i65]) (Ok.eq (p_wR k1965 (by omega) (by decide) fr65) ?_))
  have k74 : e_k (e_sR h65 (b + 19) i0 (some r)) b = some (.inl 0) := k65
  refine Ok.eq (v := nI i0) (by rw [p_fI k74]; show some (e_I h65 b 19) = _; rw [i65]) (Ok.gI k74 ?_)
  rw [← nI_succ]
  obtain ⟨h', hh'⟩ : ∃ z, z = e_sI (e_sR h65 (b + 19) i0 (some r)) b 19 (nI (i0 + 1)) := ⟨_, rfl⟩
  rw [← hh']
  have x' : Fr (KW b) h h' := by rw [hh']; exact (x65.sR _ (by unfold KW; omega)).sI _ (by unfold KW; omega)
  have wf' : wfH h' := by rw [hh']; exact wf65.of rfl rfl
  have n' : e_n h' = e_n h + 1 := by rw [hh']; exact n65
  have u' : e_u h' ≤ e_u h + 8 := by rw [hh']; show e_u h65 ≤ _; rw [u65, u28]; omega
  have kr' : e_k h' r = some (.inr (4, S.c.m)) := by rw [hh']; exact kr65
  have Rr' : ∀ j, j < S.c.m → e_R h' r j = e_R h ba j := fun j hj => by
    rw [hh', e_R_sI, e_R_sR, if_neg (by omega), Rr65]; exact R28 j hj
  have i' : e_I h' b 19 = nI S.keep.um := by rw [hh', e_I_sI, if_pos ⟨rfl, rfl⟩, hi0]; rfl
  have R' : ∀ j, j ≤ i0 → e_R h' (b + 19) j = if j = i0 then some r else if S.um = 8 then e_R h (b + 19) (j + 1) else e_R h (b + 19) j := fun j hj => by
    rw [hh', e_R_sI, e_R_sR]
    by_cases z : j = i0
    · rw [if_pos ⟨rfl, z⟩, if_pos z]
    · rw [if_neg (fun y => z y.2), if_neg z]; exact R65 j (by omega)
  have rl0 : rl r = 0 := by
    by_cases z : rl r = 0
    · exact z
    · have := (d.dom r z).1; omega
  -- what never changes
  have same : ∀ a, rl a ≠ 0 → e_I h' a = e_I h a ∧ e_J h' a = e_J h a ∧ e_R h' a = e_R h a := by
    intro a ha
    obtain ⟨h1, h2⟩ := d.dom a ha
    have nk : ∀ j, ¬ KW b a j := fun j z => by unfold KW at z; omega
    exact ⟨funext fun j => x'.I a j h1 (nk j), funext fun j => x'.J a j h1 (nk j), funext fun j => x'.R a j h1 (nk j)⟩
  have hk : ∀ a, e_k h a ≠ none → e_k h' a = e_k h a := fun a ha => x'.k a (kne wf ha)
  have ev : Ev rl (fun a => if a = r then 1 else rl a) h h' := ⟨hk, fun a ha => ⟨by
    show (if a = r then 1 else rl a) = 1
    split
    · rfl
    · exact ha, same a (by omega)⟩⟩
  have rle : ∀ a k, rl a = k → k ≠ 0 → (if a = r then 1 else rl a) = k := fun a k h1 h2 => by
    rw [if_neg (fun e => by rw [e, rl0] at h1; exact h2 h1.symm)]; exact h1
  have RDk : RD (fun a => if a = e_n h then 1 else rl a) b h' S.keep := by
    rw [← hr]
    refine ⟨fun a ha => ?_, ?_, fun i hi => ?_, ?_, fun k hk2 => ⟨fun hs => ?_, fun c hc => ?_⟩⟩
    · by_cases z : a = r
      · exact ⟨by omega, by omega⟩
      · simp only [if_neg z] at ha
        exact ⟨by have := (d.dom a ha).1; omega, (d.dom a ha).2⟩
    · obtain ⟨b1, b2, b3⟩ := same B (by rw [hd.rB]; decide)
      refine ⟨B, o, ba, by rw [x'.R b 6 (by omega) (by unfold KW; omega)]; exact rB, hd.ev ev b3 (fun j _ => by rw [b1]) (rle B 2 hd.rB (by decide)) (rle ba 2 hd.rb (by decide)), by rw [b1]; exact hm, row.ev ev (same ba (by rw [hd.rb]; decide)).2.2⟩
    · have hi : i < (if S.um = 8 then 7 else S.um) + 1 := hi
      rw [← hi0] at hi
      have hud : S.keep.ud i = if i = i0 then (S.c.m, S.c.bd) else if S.um = 8 then S.ud (i + 1) else S.ud i := by rw [hi0]; rfl
      rw [hud, R' i (by omega)]
      by_cases z : i = i0
      · rw [if_pos z, if_pos z]
        refine ⟨r, rfl, (if_pos rfl : (if r = r then 1 else rl r) = 1), kr', m8, fun j hj => ?_⟩
        have hj : j < S.c.m := hj
        obtain ⟨a, g1, g2⟩ := row.b j hj
        exact ⟨a, by rw [Rr' j hj]; exact g1, g2.ev ev⟩
      · rw [if_neg z, if_neg z]
        have old : ∀ i', i' < S.um → ∃ r2, e_R h (b + 19) i' = some r2 ∧ (if r2 = r then 1 else rl r2) = 1 ∧ e_k h' r2 = some (.inr (4, (S.ud i').1)) ∧ (S.ud i').1 ≤ 8 ∧ ∀ j, j < (S.ud i').1 → ∃ a, e_R h' r2 j = some a ∧ CB (fun a => if a = r then 1 else rl a) h' a ((S.ud i').2 j) := by
          intro i' hi'
          obtain ⟨r2, g1, g2, g3, g4, g5⟩ := d.und i' hi'
          refine ⟨r2, g1, rle r2 1 g2 (by decide), ev.k' g3, g4, fun j hj => ?_⟩
          obtain ⟨a, p1, p2⟩ := g5 j hj
          exact ⟨a, by rw [(same r2 (by omega)).2.2]; exact p1, p2.ev ev⟩
        by_cases q : S.um = 8
        · rw [if_pos q, if_pos q]
          exact old (i + 1) (by rw [hi0, if_pos q] at hi z; omega)
        · rw [if_neg q, if_neg q]
          exact old i (by rw [hi0, if_neg q] at hi z; omega)
    · rw [x'.R b 35 (by omega) (by unfold KW; omega)]; exact d.sen.ev ev
    · rw [x'.R _ _ (by omega) (by unfold KW; omega)]; exact (d.img k hk2).1 hs
    · obtain ⟨a, g1, g2⟩ := (d.img k hk2).2 c hc
      refine ⟨a, by rw [x'.R _ _ (by omega) (by unfold KW; omega)]; exact g1, g2.ev ev (fun q hq => ?_) (fun B' hB => ?_)⟩
      · obtain ⟨b1, b2, b3⟩ := same q (by omega)
        exact ⟨rle q _ hq (by omega), b1, b3⟩
      · obtain ⟨b1, b2, b3⟩ := same B' (by omega)
        exact ⟨rle B' _ hB (by decide), fun _ => ⟨b3, fun j _ => by rw [b1]⟩⟩
  rw [← hr] at RDk n'
  refine Ok.ret ⟨w.dynU (x'.mono fun a j z => by unfold KW at z; unfold DW; omega) wf' rfl i' ⟨_, RDk⟩, RDk, x', wf', n', u'⟩
end
