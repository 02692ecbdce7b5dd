/-! PURE LAYER 14: what stays as it is -/
/-- cells of role 1 never change -/
def Ev (rl rl' : Nat → Nat) (h h' : e_H) : Prop :=
  (∀ a, e_k h a ≠ none → e_k h' a = e_k h a) ∧
  (∀ a, rl a = 1 → rl' a = 1 ∧ e_I h' a = e_I h a ∧ e_J h' a = e_J h a ∧ e_R h' a = e_R h a)
theorem Ev.k {rl rl' : Nat → Nat} {h h' : e_H} (w__ : Ev rl rl' h h') : ∀ a, e_k h a ≠ none → e_k h' a = e_k h a := w__.1
theorem Ev.s {rl rl' : Nat → Nat} {h h' : e_H} (w__ : Ev rl rl' h h') : ∀ a, rl a = 1 → rl' a = 1 ∧ e_I h' a = e_I h a ∧ e_J h' a = e_J h a ∧ e_R h' a = e_R h a := w__.2
theorem Ev.k' {rl rl' : Nat → Nat} {h h' : e_H} (x : Ev rl rl' h h') {a : Nat} {d : e_K} (hk : e_k h a = some d) : e_k h' a = some d := by
  rw [x.k a (by rw [hk]; simp), hk]
theorem IsBd.ev {h h' : e_H} {a xs ys : Nat} {P : Bd} (w : IsBd h a xs ys P) (hk : ∀ c, e_k h c ≠ none → e_k h' c = e_k h c) (ha : e_I h' a 2 = e_I h a 2) (hr0 : e_R h' a 0 = e_R h a 0) (hr1 : e_R h' a 1 = e_R h a 1) (hx : e_I h' xs = e_I h xs) (hy : e_I h' ys = e_I h ys) : IsBd h' a xs ys P :=
  ⟨(by rw [hk a (by rw [w.k]; simp)]; exact w.k),
  (by rw [hr0]; exact w.rx),
  (by rw [hr1]; exact w.ry),
  (by rw [hk xs (by rw [w.kx]; simp)]; exact w.kx),
  (by rw [hk ys (by rw [w.ky]; simp)]; exact w.ky),
  (by rw [ha]; exact w.n),
  (w.le),
  (fun i hi => by rw [hx]; exact w.x i hi),
  (fun i hi => by rw [hy]; exact w.y i hi)⟩
theorem CB.ev {rl rl' : Nat → Nat} {h h' : e_H} {a : Nat} {P : Bd} (x : Ev rl rl' h h') (w : CB rl h a P) : CB rl' h' a P := by
  obtain ⟨xs, ys, w, j, r1, r2, r3⟩ := w
  obtain ⟨a1, a2, a3, a4⟩ := x.s a r1
  obtain ⟨b1, b2, b3, b4⟩ := x.s xs r2
  obtain ⟨c1, c2, c3, c4⟩ := x.s ys r3
  exact ⟨xs, ys, w.ev x.k (by rw [a2]) (by rw [a4]) (by rw [a4]) b2 c2, by rw [a3]; exact j, a1, b1, c1⟩
theorem CSn.ev {rl rl' : Nat → Nat} {h h' : e_H} (x : Ev rl rl' h h') (T : Sn) : ∀ f k a, CSn rl h T f k a → CSn rl' h' T f k a := by
  intro f
  induction f with
  | zero => intro k a w; exact w
  | succ f ih =>
    intro k a w
    obtain ⟨w0, w⟩ := w
    obtain ⟨a1, a2, a3, a4⟩ := x.s a w0
    refine ⟨a1, ?_⟩
    rw [a2, a3, a4]
    rcases w with ⟨t, w1, u, w2, w3⟩ | ⟨t, w1, u, v, w2, w3, w4, w5⟩ | ⟨t, w1, u, v, w2, w3, w4, w5⟩ | ⟨t, w1, w2⟩ | ⟨t, w1, w2⟩ | ⟨t, t2, w1, w2⟩
    · exact Or.inl ⟨t, x.k' w1, u, w2, ih _ _ w3⟩
    · exact Or.inr (Or.inl ⟨t, x.k' w1, u, v, w2, w3, ih _ _ w4, ih _ _ w5⟩)
    · exact Or.inr (Or.inr (Or.inl ⟨t, x.k' w1, u, v, w2, w3, ih _ _ w4, ih _ _ w5⟩))
    · exact Or.inr (Or.inr (Or.inr (Or.inl ⟨t, x.k' w1, w2⟩)))
    · exact Or.inr (Or.inr (Or.inr (Or.inr (Or.inl ⟨t, x.k' w1, w2⟩))))
    · exact Or.inr (Or.inr (Or.inr (Or.inr (Or.inr ⟨t, t2, x.k' w1, w2⟩))))
theorem CSnO.ev {rl rl' : Nat → Nat} {h h' : e_H} (x : Ev rl rl' h h') {s : Option Sn} {r : Option Nat} (w : CSnO rl h s r) : CSnO rl' h' s r :=
  ⟨w.1, fun y hy => by obtain ⟨a, h1, h2⟩ := w.2 y hy; exact ⟨a, h1, CSn.ev x y _ _ a h2⟩⟩
theorem fitR.ev {h h' : e_H} (hk : ∀ a, e_k h a ≠ none → e_k h' a = e_k h a) {r : Option Nat} (w : fitR h r) : fitR h' r := by
  rcases w with w | ⟨a, w1, w2⟩
  · exact Or.inl w
  · exact Or.inr ⟨a, w1, by rw [hk a (by rw [w2]; simp)]; exact w2⟩
theorem CRow.ev {rl rl' : Nat → Nat} {h h' : e_H} (x : Ev rl rl' h h') {ba m : Nat} {bd : Nat → Bd} (w : CRow rl h ba m bd) (hr : e_R h' ba = e_R h ba) : CRow rl' h' ba m bd :=
  ⟨(x.k' w.k),
  (w.m8),
  (fun i hi => by obtain ⟨a, h1, h2⟩ := w.b i hi; exact ⟨a, by rw [hr]; exact h1, h2.ev x⟩),
  (fun i hi => by rw [hr]; exact (w.f i hi).ev x.k)⟩
theorem BH.ev {h h' : e_H} {a o : Nat} {d : Hd} (w : BH h a o d) (hk : ∀ c, e_k h c ≠ none → e_k h' c = e_k h c) (hr : e_R h' a 1 = e_R h a 1) (h2 : e_I h' a 2 = e_I h a 2) (h3 : e_I h' a 3 = e_I h a 3) (h5 : e_I h' a 5 = e_I h a 5) (h6 : e_I h' a 6 = e_I h a 6) (ho : e_I h' o = e_I h o) : BH h' a o d :=
  ⟨(by rw [hk a (by rw [w.k]; simp)]; exact w.k),
  (by rw [hr]; exact w.ro),
  (by rw [hk o (by rw [w.ko]; simp)]; exact w.ko),
  (w.w10),
  (w.h10),
  (by rw [h2]; exact w.w),
  (by rw [h3]; exact w.hh),
  (by rw [h5]; exact w.outs),
  (by rw [h6]; exact w.bell),
  (fun i hi => by rw [ho]; exact w.out i hi)⟩
/-- a board's head: its own cell may change in what it counts alone -/
theorem CHd.ev {rl rl' : Nat → Nat} {h h' : e_H} (x : Ev rl rl' h h') {B o ba : Nat} {d : Hd} (w : CHd rl h B o ba d) (hr : e_R h' B = e_R h B) (hi : ∀ j, j ≠ 4 → e_I h' B j = e_I h B j) (h2 : rl' B = 2) (h3 : rl' ba = 2) : CHd rl' h' B o ba d :=
  ⟨(w.bh.ev x.k (by rw [hr]) (hi 2 (by decide)) (hi 3 (by decide)) (hi 5 (by decide)) (hi 6 (by decide)) (x.s o w.ro).2.1),
  (by rw [hr]; exact w.r),
  (x.k' w.k),
  (h2),
  ((x.s o w.ro).1),
  (h3)⟩
theorem CCl.ev {h h' : e_H} {a xs ys : Nat} {c : Cl} (w : CCl h a xs ys c) (hk : ∀ q, e_k h q ≠ none → e_k h' q = e_k h q) (hr0 : e_R h' a 0 = e_R h a 0) (hr1 : e_R h' a 1 = e_R h a 1) (h2 : e_I h' a 2 = e_I h a 2) (h3 : e_I h' a 3 = e_I h a 3) (h4 : e_I h' a 4 = e_I h a 4) (hx : e_I h' xs = e_I h xs) (hy : e_I h' ys = e_I h ys) : CCl h' a xs ys c :=
  ⟨(by rw [hk a (by rw [w.k]; simp)]; exact w.k),
  (by rw [hr0]; exact w.rx),
  (by rw [hr1]; exact w.ry),
  (by rw [hk xs (by rw [w.kx]; simp)]; exact w.kx),
  (by rw [hk ys (by rw [w.ky]; simp)]; exact w.ky),
  (by rw [h4]; exact w.n),
  (w.le),
  (fun z => by rw [h2]; exact w.x z),
  (fun z => by rw [h3]; exact w.y z),
  (fun k hk => by rw [hx]; exact w.dx k hk),
  (fun k hk => by rw [hy]; exact w.dy k hk)⟩
theorem CLn.ev {h h' : e_H} {p q m : Nat} {a b : Nat → Nat} (w : CLn h p q m a b) (hk : ∀ c, e_k h c ≠ none → e_k h' c = e_k h c) (hp : e_I h' p = e_I h p) (hq : e_I h' q = e_I h q) : CLn h' p q m a b :=
  ⟨(by rw [hk p (by rw [w.ka]; simp)]; exact w.ka),
  (by rw [hk q (by rw [w.kb]; simp)]; exact w.kb),
  (w.le),
  (fun k hk => by rw [hp]; exact w.fa k hk),
  (fun k hk => by rw [hq]; exact w.fb k hk)⟩
theorem CKept.ev {rl rl' : Nat → Nat} {h h' : e_H} (x : Ev rl rl' h h') {a rk : Nat} {c : Im} (w : CKept rl h a rk c) (hs : ∀ q, rl q = rk → rl' q = rk ∧ e_I h' q = e_I h q ∧ e_R h' q = e_R h q)
    (hB : ∀ B, rl B = 2 → rl' B = 2 ∧ (e_k h B = some (.inl 2) → e_R h' B = e_R h B ∧ ∀ j, j ≠ 4 → e_I h' B j = e_I h B j)) : CKept rl' h' a rk c := by
  obtain ⟨a1, a2, a3⟩ := hs a w.rr
  refine ⟨x.k' w.k, a1, ?_, ?_, ?_, ?_, by rw [a2]; exact w.mm, by rw [a2]; exact w.lm, ?_⟩
  · obtain ⟨B, o, ba, h1, h2⟩ := w.B
    obtain ⟨b1, b2⟩ := hB B h2.rB
    obtain ⟨b3, b4⟩ := b2 h2.bh.k
    exact ⟨B, o, ba, by rw [a3]; exact h1, h2.ev x b3 b4 b1 (hB ba h2.rb).1⟩
  · obtain ⟨ba, h1, h2, h3⟩ := w.bs
    obtain ⟨b1, b2, b3⟩ := hs ba h2
    exact ⟨ba, by rw [a3]; exact h1, b1, h3.ev x b3⟩
  · obtain ⟨q, xs, ys, h1, h2, h3, h4, h5⟩ := w.cc
    obtain ⟨b1, b2, b3⟩ := hs q h2
    obtain ⟨c1, c2, c3⟩ := hs xs h3
    obtain ⟨d1, d2, d3⟩ := hs ys h4
    exact ⟨q, xs, ys, by rw [a3]; exact h1, b1, c1, d1, h5.ev x.k (by rw [b3]) (by rw [b3]) (by rw [b2]) (by rw [b2]) (by rw [b2]) c2 d2⟩
  · obtain ⟨p, q, h1, h2, h3, h4, h5⟩ := w.ll
    obtain ⟨b1, b2, b3⟩ := hs p h3
    obtain ⟨c1, c2, c3⟩ := hs q h4
    exact ⟨p, q, by rw [a3]; exact h1, by rw [a3]; exact h2, b1, c1, h5.ev x.k b2 c2⟩
  · rw [a3]; exact w.sn.ev x
/-- places of the component's that nothing is said of, and the model's cells -/
def CW (b a j : Nat) : Prop :=
  (b + 33 ≤ a ∧ a < b + 62) ∨ (a = b ∧ (j = 2 ∨ j = 3 ∨ j = 23 ∨ j = 24 ∨ j = 27 ∨ j = 30)) ∨ a = b + 2 ∨ (a = b + 10 ∧ 2 ≤ j) ∨ a = b + 11 ∨ a = b + 12 ∨
  (a = b + 13 ∧ ((1 ≤ j ∧ j ≤ 6) ∨ j = 8)) ∨ (a = b + 14 ∧ 1 ≤ j ∧ j ≤ 6) ∨ (a = b + 30 ∧ ((1 ≤ j ∧ j ≤ 6) ∨ j = 9)) ∨ (b + 15 ≤ a ∧ a ≤ b + 17) ∨ (a = b + 21 ∧ 2 ≤ j) ∨ (b + 22 ≤ a ∧ a ≤ b + 27)
theorem CSh.fr {A : Nat → Nat} {b : Nat} {h h' : e_H} {W : Nat → Nat → Prop} (s : CSh A b h) (x : Fr W h h') (wf : ∀ a, e_n h' ≤ a → e_k h' a = none)
    (hr : ∀ q ∈ cR, ¬ W (b + q.1) q.2.1) (h3 : ∀ j, ¬ W (b + 3) j) (h31 : ∀ j, ¬ W (b + 31) j) (h13 : ¬ W (b + 13) 0) (h14 : ¬ W (b + 14) 0) (h30 : ¬ W (b + 30) 0) : CSh A b h' := by
  have hn := s.n
  have c33 : ∀ q ∈ cK, q.1 < 33 := by decide
  have r33 : ∀ q ∈ cR, q.1 < 33 := by decide
  refine ⟨wf, by have := x.n; omega, fun q hq => ?_, fun q hq => ?_, fun j hj => ?_, fun j hj => ?_, ?_, ?_, ?_⟩
  · rw [x.k _ (by have := c33 q hq; omega)]; exact s.k q hq
  · rw [x.R _ _ (by have := r33 q hq; omega) (hr q hq)]; exact s.r q hq
  · rw [x.R _ _ (by omega) (h3 j)]; exact s.w j hj
  · rw [x.R _ _ (by omega) (h31 j)]; exact s.v j hj
  · rw [x.I _ _ (by omega) h13]; exact s.m1
  · rw [x.I _ _ (by omega) h14]; exact s.m2
  · rw [x.I _ _ (by omega) h30]; exact s.m3
theorem cR_CW {b : Nat} : ∀ q ∈ cR, ¬ CW b (b + q.1) q.2.1 := by
  intro q hq
  simp only [cR, List.mem_cons, List.not_mem_nil, or_false] at hq
  unfold CW
  rcases hq with rfl | rfl | rfl | rfl | rfl | rfl | rfl | rfl | rfl | rfl | rfl | rfl | rfl | rfl | rfl | rfl | rfl | rfl | rfl | rfl | rfl | rfl | rfl | rfl | rfl | rfl | rfl | rfl | rfl | rfl | rfl | rfl | rfl | rfl | rfl <;> (simp only; omega)
theorem kne {h : e_H} (wf : ∀ a, e_n h ≤ a → e_k h a = none) {a : Nat} (ha : e_k h a ≠ none) : a < e_n h := by
  by_cases q : a < e_n h
  · exact q
  · exact absurd (wf a (by omega)) ha
theorem RD.fr {rl : Nat → Nat} {b : Nat} {h h' : e_H} {S : St} {W : Nat → Nat → Prop} (wf : ∀ a, e_n h ≤ a → e_k h a = none) (hn : b + 62 ≤ e_n h) (w : RD rl b h S) (x : Fr W h h')
    (hW : ∀ a j, W a j → rl a = 0) (h6 : ¬ W b 6) (h35 : ¬ W b 35) (h19 : ∀ j, ¬ W (b + 19) j) (h32 : ∀ j, ¬ W (b + 32) j) : RD rl b h' S := by
  have same : ∀ a, rl a ≠ 0 → e_I h' a = e_I h a ∧ e_J h' a = e_J h a ∧ e_R h' a = e_R h a := by
    intro a ha
    have hd := (w.dom a ha).1
    exact ⟨funext fun j => x.I a j hd fun z => ha (hW a j z), funext fun j => x.J a j hd fun z => ha (hW a j z), funext fun j => x.R a j hd fun z => ha (hW a j z)⟩
  have hk : ∀ a, e_k h a ≠ none → e_k h' a = e_k h a := fun a ha => x.k a (kne wf ha)
  have ev : Ev rl rl h h' := ⟨hk, fun a ha => ⟨ha, same a (by omega)⟩⟩
  refine ⟨fun a ha => ⟨by have := (w.dom a ha).1; have := x.n; omega, (w.dom a ha).2⟩, ?_, fun i hi => ?_, ?_, fun k hk => ⟨fun hs => ?_, fun c hc => ?_⟩⟩
  · obtain ⟨B, o, ba, h1, h2, h3, h4⟩ := w.cur
    obtain ⟨b1, b2, b3⟩ := same B (by rw [h2.rB]; decide)
    exact ⟨B, o, ba, by rw [x.R b 6 (by omega) h6]; exact h1, h2.ev ev b3 (fun j _ => by rw [b1]) h2.rB h2.rb, by rw [b1]; exact h3, h4.ev ev (same ba (by rw [h2.rb]; decide)).2.2⟩
  · obtain ⟨r, h1, h2, h3, h4, h5⟩ := w.und i hi
    refine ⟨r, by rw [x.R _ _ (by omega) (h19 i)]; exact h1, h2, ev.k' h3, h4, fun j hj => ?_⟩
    obtain ⟨a, g1, g2⟩ := h5 j hj
    exact ⟨a, by rw [(same r (by omega)).2.2]; exact g1, g2.ev ev⟩
  · rw [x.R b 35 (by omega) h35]; exact w.sen.ev ev
  · rw [x.R _ _ (by omega) (h32 k)]; exact (w.img k hk).1 hs
  · obtain ⟨a, h1, h2⟩ := (w.img k hk).2 c hc
    refine ⟨a, by rw [x.R _ _ (by omega) (h32 k)]; exact h1, h2.ev ev (fun q hq => ?_) (fun B hB => ?_)⟩
    · obtain ⟨b1, b2, b3⟩ := same q (by omega)
      exact ⟨hq, b1, b3⟩
    · obtain ⟨b1, b2, b3⟩ := same B (by omega)
      exact ⟨hB, fun _ => ⟨b3, fun j _ => by rw [b1]⟩⟩
theorem RD.CW0 {rl : Nat → Nat} {b : Nat} {h : e_H} {S : St} (w : RD rl b h S) {a j : Nat} (hw : CW b a j) : rl a = 0 := by
  by_cases q : rl a = 0
  · exact q
  · have := (w.dom a q).2
    unfold CW at hw
    omega
/-- the component stands for the same when only places that nothing is said of have changed -/
theorem RC.fr {A : Nat → Nat} {b : Nat} {h h' : e_H} {S : St} {W : Nat → Nat → Prop} (w : RC A b h S) (x : Fr W h h') (wf : ∀ a, e_n h' ≤ a → e_k h' a = none) (hW : ∀ a j, W a j → CW b a j) : RC A b h' S := by
  have hn := w.sh.n
  have cw : ∀ a j, ¬ CW b a j → ¬ W a j := fun a j q z => q (hW a j z)
  have hk : ∀ a, e_k h a ≠ none → e_k h' a = e_k h a := fun a ha => x.k a (kne w.sh.wf ha)
  have I : ∀ k j, k < 33 → ¬ CW b (b + k) j → e_I h' (b + k) j = e_I h (b + k) j := fun k j h1 h2 => x.I _ _ (by omega) (cw _ _ h2)
  have R : ∀ k j, k < 33 → ¬ CW b (b + k) j → e_R h' (b + k) j = e_R h (b + k) j := fun k j h1 h2 => x.R _ _ (by omega) (cw _ _ h2)
  refine ⟨w.sh.fr x wf (fun q hq => cw _ _ (cR_CW q hq)) (fun j => cw _ _ ?_) (fun j => cw _ _ ?_) (cw _ _ ?_) (cw _ _ ?_) (cw _ _ ?_), ?_, fun i hi => ?_, ?_, ?_, ?_, fun i hi => ?_, ?_, ?_, fun i hi => ?_, ?_, ?_, ?_, ?_⟩
  · unfold CW; omega
  · unfold CW; omega
  · unfold CW; omega
  · unfold CW; omega
  · unfold CW; omega
  · rw [show b = b + 0 from rfl, I 0 1 (by decide) (by unfold CW; omega)]; exact w.tl
  · rw [I 1 i (by decide) (by unfold CW; omega)]; exact w.tp i hi
  · rw [show b = b + 0 from rfl, I 0 11 (by decide) (by unfold CW; omega)]; exact w.fault
  · rw [show b = b + 0 from rfl, I 0 12 (by decide) (by unfold CW; omega)]; exact w.why
  · rw [show b = b + 0 from rfl, I 0 17 (by decide) (by unfold CW; omega)]; exact w.fm
  · rw [I 18 i (by decide) (by unfold CW; omega)]; exact w.fo i hi
  · rw [show b = b + 0 from rfl, I 0 19 (by decide) (by unfold CW; omega)]; exact w.um
  · rw [show b = b + 0 from rfl, I 0 21 (by decide) (by unfold CW; omega)]; exact w.xm
  · rw [I 20 i (by decide) (by unfold CW; omega)]; exact w.tx i hi
  · rw [show b = b + 0 from rfl, I 0 33 (by decide) (by unfold CW; omega)]; exact w.lm
  · exact w.ln.ev hk (funext fun j => I 28 j (by decide) (by unfold CW; omega)) (funext fun j => I 29 j (by decide) (by unfold CW; omega))
  · exact w.cl.ev hk (R 7 0 (by decide) (by unfold CW; omega)) (R 7 1 (by decide) (by unfold CW; omega)) (I 7 2 (by decide) (by unfold CW; omega)) (I 7 3 (by decide) (by unfold CW; omega)) (I 7 4 (by decide) (by unfold CW; omega)) (funext fun j => I 8 j (by decide) (by unfold CW; omega)) (funext fun j => I 9 j (by decide) (by unfold CW; omega))
  · obtain ⟨rl, d⟩ := w.dyn
    refine ⟨rl, d.fr w.sh.wf hn x (fun a j z => d.CW0 (hW a j z)) (cw _ _ ?_) (cw _ _ ?_) (fun j => cw _ _ ?_) (fun j => cw _ _ ?_)⟩
    · unfold CW; omega
    · unfold CW; omega
    · unfold CW; omega
    · unfold CW; omega
/-- the component's view of its board -/
theorem RC.view {A : Nat → Nat} {b : Nat} {h : e_H} {S : St} (w : RC A b h S) : ∃ B o ba, CV h b B o ba S.c := by
  obtain ⟨rl, d⟩ := w.dyn
  obtain ⟨B, o, ba, h1, h2, h3, h4⟩ := d.cur
  refine ⟨B, o, ba, w.sh.k (0, .inl 0) (by simp [cK]), h1, h2.bh, h2.r, h2.k, h3, h4.m8, fun i hi => ?_⟩
  obtain ⟨a, g1, xs, ys, g2, -, r1, r2, r3⟩ := h4.b i hi
  exact ⟨a, xs, ys, g1, g2, (d.dom a (by omega)).2, (d.dom xs (by omega)).2, (d.dom ys (by omega)).2⟩
/-! the model -/
/-- what the model may change: ints and longs at the places W -/
def MF (W : Nat → Nat → Prop) (h h' : e_H) : Prop :=
  (e_k h' = e_k h) ∧
  (e_R h' = e_R h) ∧
  (e_n h' = e_n h) ∧
  (e_u h' = e_u h) ∧
  (∀ a j, ¬ W a j → e_I h' a j = e_I h a j) ∧
  (∀ a j, ¬ W a j → e_J h' a j = e_J h a j)
theorem MF.k {W : Nat → Nat → Prop} {h h' : e_H} (w__ : MF W h h') : e_k h' = e_k h := w__.1
theorem MF.R {W : Nat → Nat → Prop} {h h' : e_H} (w__ : MF W h h') : e_R h' = e_R h := w__.2.1
theorem MF.n {W : Nat → Nat → Prop} {h h' : e_H} (w__ : MF W h h') : e_n h' = e_n h := w__.2.2.1
theorem MF.u {W : Nat → Nat → Prop} {h h' : e_H} (w__ : MF W h h') : e_u h' = e_u h := w__.2.2.2.1
theorem MF.I {W : Nat → Nat → Prop} {h h' : e_H} (w__ : MF W h h') : ∀ a j, ¬ W a j → e_I h' a j = e_I h a j := w__.2.2.2.2.1
theorem MF.J {W : Nat → Nat → Prop} {h h' : e_H} (w__ : MF W h h') : ∀ a j, ¬ W a j → e_J h' a j = e_J h a j := w__.2.2.2.2.2
section
variable {W : Nat → Nat → Prop} {h h1 h2 : e_H}
theorem MF.rf (W : Nat → Nat → Prop) (h : e_H) : MF W h h := ⟨rfl, rfl, rfl, rfl, fun _ _ _ => rfl, fun _ _ _ => rfl⟩
theorem MF.tr (x : MF W h h1) (y : MF W h1 h2) : MF W h h2 := ⟨y.k.trans x.k, y.R.trans x.R, y.n.trans x.n, y.u.trans x.u, fun a j w => (y.I a j w).trans (x.I a j w), fun a j w => (y.J a j w).trans (x.J a j w)⟩
theorem MF.mono {V : Nat → Nat → Prop} (x : MF W h h1) (hw : ∀ a j, W a j → V a j) : MF V h h1 := ⟨x.k, x.R, x.n, x.u, fun a j w => x.I a j fun q => w (hw a j q), fun a j w => x.J a j fun q => w (hw a j q)⟩
theorem MF.sI (x : MF W h h1) {a k : Nat} (v : Int32) (hw : W a k) : MF W h (e_sI h1 a k v) := ⟨x.k, x.R, x.n, x.u, fun b j w => by
    rw [e_I_sI, if_neg, x.I b j w]
    rintro ⟨rfl, rfl⟩
    exact w hw, x.J⟩
theorem MF.sJ (x : MF W h h1) {a k : Nat} (v : Int64) (hw : W a k) : MF W h (e_sJ h1 a k v) := ⟨x.k, x.R, x.n, x.u, x.I, fun b j w => by
    rw [e_J_sJ, if_neg, x.J b j w]
    rintro ⟨rfl, rfl⟩
    exact w hw⟩
theorem MF.toFr (x : MF W h h1) : Fr W h h1 := ⟨by rw [x.n]; exact Nat.le_refl _, by rw [x.u]; exact Nat.le_refl _, fun a _ => by rw [x.k], fun a j _ w => x.I a j w, fun a j _ w => x.J a j w, fun a j _ _ => by rw [x.R]⟩
end
/-- the model's places that nothing is said of -/
def MW (m a j : Nat) : Prop :=
  (a = m ∧ (j = 0 ∨ (3 ≤ j ∧ j ≤ 9) ∨ j = 11 ∨ j = 13 ∨ j = 14 ∨ j = 34 ∨ j = 37 ∨ 46 ≤ j)) ∨ a = m + 3 ∨ a = m + 4 ∨ a = m + 8 ∨ (m + 14 ≤ a ∧ a ≤ m + 17) ∨ (m + 20 ≤ a ∧ a ≤ m + 27)
theorem m_sh.mf {m : Nat} {h h' : e_H} (s : m_sh h m) (hk : ∀ a, m ≤ a → a ≤ m + 27 → e_k h' a = e_k h a) (hr : e_R h' m = e_R h m) : m_sh h' m := by
  refine ⟨by rw [hk m (by omega) (by omega)]; exact s.1, fun i q hq => ?_⟩
  have : i < 27 := by
    have := (List.getElem?_eq_some_iff.mp hq).1
    exact this
  rw [hr, hk _ (by omega) (by omega)]
  exact s.2 i q hq
theorem RM.keep {m : Nat} {h h' : e_H} {S : St} (w : RM m h S) (hk : ∀ a, m ≤ a → a ≤ m + 27 → e_k h' a = e_k h a) (hr : e_R h' m = e_R h m)
    (I : ∀ a j, m ≤ a → a ≤ m + 27 → ¬ MW m a j → e_I h' a j = e_I h a j) (J : ∀ a j, m ≤ a → a ≤ m + 27 → ¬ MW m a j → e_J h' a j = e_J h a j) : RM m h' S := by
  have FI : ∀ k, k < 28 → (∀ j, ¬ MW m (m + k) j) → e_I h' (m + k) = e_I h (m + k) := fun k h1 h2 => funext fun j => I _ _ (by omega) (by omega) (h2 j)
  have FJ : ∀ k, k < 28 → (∀ j, ¬ MW m (m + k) j) → e_J h' (m + k) = e_J h (m + k) := fun k h1 h2 => funext fun j => J _ _ (by omega) (by omega) (h2 j)
  have i1 := FI 1 (by decide) (fun j => by unfold MW; omega)
  have i2 := FI 2 (by decide) (fun j => by unfold MW; omega)
  have i5 := FI 5 (by decide) (fun j => by unfold MW; omega)
  have i6 := FI 6 (by decide) (fun j => by unfold MW; omega)
  have i13 := FI 13 (by decide) (fun j => by unfold MW; omega)
  have i18 := FI 18 (by decide) (fun j => by unfold MW; omega)
  have i19 := FI 19 (by decide) (fun j => by unfold MW; omega)
  have j7 := FJ 7 (by decide) (fun j => by unfold MW; omega)
  have j9 := FJ 9 (by decide) (fun j => by unfold MW; omega)
  have j10 := FJ 10 (by decide) (fun j => by unfold MW; omega)
  have j11 := FJ 11 (by decide) (fun j => by unfold MW; omega)
  have j12 := FJ 12 (by decide) (fun j => by unfold MW; omega)
  refine ⟨w.sh.mf hk hr, ?_, ?_, ?_, ?_, ?_, ?_, ?_, ?_, ?_, ?_, ?_, ?_, ?_⟩
  · rw [I m 2 (by omega) (by omega) (by unfold MW; omega)]; exact w.tl
  · rw [i1]; exact w.tp
  · rw [I m 10 (by omega) (by omega) (by unfold MW; omega)]; exact w.fault
  · rw [I m 12 (by omega) (by omega) (by unfold MW; omega)]; exact w.why
  · rw [i2, j7, j10]; exact w.c
  · rw [I m 27 (by omega) (by omega) (by unfold MW; omega)]; exact w.um
  · rw [i6, j9]; exact w.ud
  · rw [I m 33 (by omega) (by omega) (by unfold MW; omega)]; exact w.fm
  · rw [i18]; exact w.fo
  · rw [I m 36 (by omega) (by omega) (by unfold MW; omega)]; exact w.xm
  · rw [i19]; exact w.tx
  · rw [i13]; exact w.has
  · rw [i5, j11, j12]; exact w.im
theorem RM.mf {m : Nat} {h h' : e_H} {S : St} {W : Nat → Nat → Prop} (w : RM m h S) (x : MF W h h') (hW : ∀ a j, W a j → MW m a j) : RM m h' S :=
  w.keep (fun a _ _ => by rw [x.k]) (by rw [x.R]) (fun a j _ _ z => x.I a j fun q => z (hW a j q)) (fun a j _ _ z => x.J a j fun q => z (hW a j q))
theorem MRow.rh {h : e_H} {r sz m : Nat} {J : Nat → Int64} {d : Hd} {bd : Nat → Bd} (w : MRow (e_I h r) J d m bd) (k : e_k h r = some (.inr (0, sz))) (s1 : 258 ≤ sz) (s2 : sz ≤ 1000) : RH h r sz d :=
  ⟨k, s1, s2, w.hd.w10, w.hd.h10, w.hd.w, w.hd.hh, w.hd.bell, w.hd.outs, w.hd.out⟩
theorem MBd.rb {h : e_H} {r sz b : Nat} {P : Bd} (w : MBd (e_I h r) b P) (k : e_k h r = some (.inr (0, sz))) (s1 : 258 ≤ sz) (s2 : sz ≤ 1000) (hb : b ≤ 8) : RB h r sz b P :=
  ⟨k, s1, s2, hb, w.n, w.pos, w.le, w.x, w.y⟩
theorem RM.view {m : Nat} {h : e_H} {S : St} (w : RM m h S) : MV h m S.c := by
  have k := (w.sh.2 1 (15, 0, 512) rfl)
  have r := w.c.row
  refine ⟨⟨w.sh.1, k.1⟩, r.rh k.2 (by decide) (by decide), r.mm, r.m8, fun i hi => ?_⟩
  have := r.m8
  exact (r.bb i hi).rb k.2 (by decide) (by decide) (by omega)
theorem RM.thr {m : Nat} {h : e_H} {S : St} (w : RM m h S) (v : Int32) : RM m (e_sI h m 0 v) S :=
  w.mf (W := MW m) ((MF.rf _ h).sI v (by unfold MW; omega)) fun _ _ q => q
