/-! ENGINE 6: calls, answers, throws -/
section CALLS
/-- what a method's tables' words are -/
def e_mok (M : e_M) (n : Nat) : Prop := e_cw M ∈ lw_all ∧ Cond.initialized M.1.cls ∈ lw_all ∧ (M.1.cls ≠ "java/lang/invoke/MethodHandle" ∧ M.1.cls ≠ "java/lang/invoke/VarHandle") ∧ ∀ sig, parseMethodDescriptor M.1.desc = some sig → n = sig.parameters.length
theorem e_good {w : Cond} (h : w ∈ lw_all) {args a' : Array Value} {s U : State} (hts : ∀ w ∈ lw_all, w.before args s = true) (hW : s.WarmedH U.vm) : w.before a' U = true := word_at hW (good_of_word (List.mem_filter.mp h).2) (hts _ h)
theorem e_cw_code {M : e_M} {a : Array Value} {U : State} {mk : MethodId} (h : (e_cw M).before a U = true) (hn : U.methodNamed? M.1 = some mk) : ∃ (methY : Method) (cY : Code), U.vm.method? mk = some methY ∧ methY.code = some cY ∧ cY.maxLocals = M.2.2.1 := by
  unfold e_cw at h
  split at h
  · obtain ⟨methY, cY, hmY, hcY, -, hlY, -⟩ := Cond.code_spec hn h
    exact ⟨methY, cY, hmY, hcY, hlY⟩
  · obtain ⟨m9, methY, cY, hn9, hmY, hcY, -, hlY, -⟩ := Cond.codeWith_spec h
    cases Option.some.inj (hn9.symm.trans hn)
    exact ⟨methY, cY, hmY, hcY, hlY⟩
def e_Pre (D : e_D) (B : Heap) (R : Room) (args : List Value) (h : e_H) (r : e_R1) : Pt → Array Value → Prop := fun A a =>
  A.cells + (e_n r.2 - e_n h) ≤ R.cells ∧ A.slots + (e_u r.2 - e_u h) ≤ R.slots ∧ a = args.toArray ∧ e_Rel D B h A.U.heap ∧ e_G D B A.U
def e_Post (D : e_D) (B : Heap) (h : e_H) (r : e_R1) : Pt → Array Value → Option Value → Pt → Prop := fun A _ v Z =>
  ∃ L, r.1 = .ok v ∧ e_Rel D B r.2 Z.U.heap ∧ Z.locs = A.locs ++ L ∧ (∀ z ∈ L, B.size ≤ z.base) ∧ Z.cells = A.cells + (e_n r.2 - e_n h) ∧ Z.slots = A.slots + (e_u r.2 - e_u h)
def e_PostX (D : e_D) (B : Heap) (h : e_H) (r : e_R1) : Pt → Array Value → Addr → Pt → Prop := fun A _ q Z =>
  ∃ (L : List Loc) (c : Nat) (ce : Cell), r.1 = .error (c, q) ∧ e_Rel D B r.2 Z.U.heap ∧ Z.U.heap[q]? = some ce ∧ ce.vm = .none ∧ A.U.vm.findClass (e_xn c) = some ce.cls ∧ Z.locs = A.locs ++ L ∧ (∀ z ∈ L, B.size ≤ z.base) ∧ Z.cells = A.cells + (e_n r.2 - e_n h) ∧ Z.slots = A.slots + (e_u r.2 - e_u h)
theorem e_back {l : Launch} {R : Room} {p : Program} {e : Env} {below : List Frame} {s : State} {sargs : Array Value} {len d n : Nat} {D : e_D} {B : Heap} {M : e_M} {args : List Value} {h : e_H} {r : e_R1}
    (hM : e_Run l D B d M args h r) (hok : e_mok M n) (hts : ∀ w ∈ lw_all, w.before sargs s = true) (hnl : M.2.2.1 ≤ 45) (hfr : d + 1 ≤ R.frames) (hlo : 64 * (d + 1) ≤ R.locals) :
    vx_Back l R p e below s sargs M.1 len 8 (e_Pre D B R args h r) (e_Post D B h r) (e_PostX D B h r) := by
  intro m meth c A g ig mk a X hg hsize hdg hW hn hp
  obtain ⟨hc1, hc2, rfl, hR, hG⟩ := hp
  obtain ⟨-, hM⟩ := hM
  have h1 : (headSpec (e_ws M) (e_room d h r.2)).pre.before args.toArray A.U = true := atoms_intro fun w hw => by
    rcases List.mem_cons.mp hw with e | e
    · rw [e]; exact e_good hok.1 hts X.warmed
    · exact e_good e hts X.warmed
  have h2 : (e_cw M).before args.toArray A.U = true := e_good hok.1 hts X.warmed
  have h3 : (Cond.initialized M.1.cls).before args.toArray A.U = true := e_good hok.2.1 hts X.warmed
  obtain ⟨U, Ls, c0, s0⟩ := A
  dsimp only [Pt.U, Pt.locs, Pt.cells, Pt.slots] at h1 h2 h3 X hn hc1 hc2 hR hG ⊢
  obtain ⟨methY, cY, hmY, hcY, hlY⟩ := e_cw_code h2 hn
  obtain ⟨kY, hkY, -⟩ := className_of_methodNamed hn
  have hinitY : kY.init = .initialized := Cond.initialized_spec (findClass_of_methodNamed hn) hkY h3
  have hAt : At U g.method c below := by rw [hg]; exact X.here
  have hPc : args.toArray = args.toArray ∧ e_Rel D B h (U.calling g mk args.toArray).heap ∧ e_G D B (U.calling g mk args.toArray) :=
    ⟨rfl, hR, e_G.moved (U := U.calling g mk args.toArray) (State.WarmedH.refl U) hG⟩
  have happ : (headSpec (e_ws M) (e_room d h r.2)).appliesLoose M.1 e.platform (U.calling g mk args.toArray) = true :=
    Spec.appliesLoose_calling (g := g) hAt hdg hn hkY hinitY
      (X.room_calling (g := g) (R' := (headSpec (e_ws M) (e_room d h r.2)).room) hsize hmY hcY hfr (by
        rw [hlY]
        show _ + (M.2.2.1 + 11) + 64 * d ≤ _
        omega) hc1 hc2) h1
  obtain ⟨mid, hmid⟩ := hAt.above
  have hfr2 : (U.setTop g).frames = (.java g :: mid) ++ below := by rw [State.frames_setTop' g hAt.top, hmid]; rfl
  obtain ⟨o, s₂, hsteps, -, hend, hq⟩ := Steps.callFree hM p X.admits X.cas X.clock (acts := []) hfr2 happ hPc trivial
  have hq' : e_End D B h r (U.calling g mk args.toArray) o s₂ := hq
  rw [State.frames_setTop' g hAt.top] at hend
  obtain ⟨g₀, hg0⟩ := Option.isSome_iff_exists.mp hAt.top
  obtain ⟨rr, hr⟩ := State.topJava?_eq_some.mp hg0
  have hr' : (({ U with heap := s₂.heap, slotsUsed := s₂.slotsUsed } : State).setVm s₂.vm).frames = .java g₀ :: rr := hr
  obtain ⟨hRel, hW₂, ⟨L, hsm, hL⟩, hout⟩ := hq'
  obtain ⟨e2, q2, q3, q4, q5, q6⟩ := id hsm
  have e3 : s₂ = ({ (U.calling g mk args.toArray).setFrames s₂.frames with heap := s₂.heap, slotsUsed := s₂.slotsUsed } : State).setVm s₂.vm := by
    have : s₂ = ({ s₂ with vm := (U.calling g mk args.toArray).vm } : State).setVm s₂.vm := rfl
    rw [e2] at this
    exact this
  have hW' : U.WarmedH s₂.vm := hW₂
  have hsame : U.sameButNew ({ U with heap := s₂.heap, slotsUsed := s₂.slotsUsed } : State) L (e_n r.2 - e_n h) (e_u r.2 - e_u h) := by
    refine ⟨?_, q2, q3, q4, q5, q6⟩
    obtain ⟨t, ht, -⟩ := State.frames_cons hr
    show ({ U with heap := s₂.heap, slotsUsed := s₂.slotsUsed } : State) = { U.setFrames U.frames with heap := s₂.heap, slotsUsed := s₂.slotsUsed }
    rw [State.setFrames_self ht]
  rcases hout with ⟨v, hv, rfl⟩ | ⟨xc, q, ce, hv, rfl, hce, hcv, hcl⟩
  · obtain ⟨c₂, i₂, len₂, hc₂, hd₂, hf₂⟩ := hend
    have hcc : c₂ = c := by
      have h1 : s₂.code? g.method = U.code? g.method := by
        rw [State.code?_eq, State.code?_eq, hW'.alike.method?]
      exact Option.some.inj (hc₂.symm.trans (h1.trans hAt.code))
    subst hcc
    have hlen : len₂ = len := by rw [hdg] at hd₂; cases hd₂; rfl
    subst hlen
    have hs₂ : s₂ = (({ U with heap := s₂.heap, slotsUsed := s₂.slotsUsed } : State).setVm s₂.vm).setTop { g with pc := g.pc + len₂, stack := v.toList ++ g.stack } := by
      refine e3.trans ?_
      rw [hf₂, State.calling_eq hAt.top, State.setFrames_setFrames, State.setTop_of_frames _ hr', hr]
      rfl
    subst hg
    refine Or.inl ⟨v, ⟨(({ U with heap := s₂.heap, slotsUsed := s₂.slotsUsed } : State).setVm s₂.vm), Ls ++ L, c0 + (e_n r.2 - e_n h), s0 + (e_u r.2 - e_u h)⟩,
      ⟨X.admits, X.cas, X.clock, X.frames, X.room, X.hears, X.method, X.code, (X.here.setHeapUsed s₂.heap s₂.slotsUsed).setVm hW'.alike, X.tail, State.WarmedH.trans X.warmed hW', X.limits, X.bytes, X.same.trans (hsame.setVm s.vm)⟩,
      ⟨L, hv, hRel, rfl, hL, rfl, rfl⟩, ?_⟩
    show Steps p.tables e below _ ((({ U with heap := s₂.heap, slotsUsed := s₂.slotsUsed } : State).setVm s₂.vm).setTop { g with pc := g.pc + len₂, stack := v.toList ++ g.stack })
    rw [← hs₂]
    exact hsteps
  · have hf₂ : s₂.frames = .throwing q :: .java g :: U.frames.tail := hend
    have hs₂ : s₂ = ((({ U with heap := s₂.heap, slotsUsed := s₂.slotsUsed } : State).setVm s₂.vm).setTop g).pushFrame (.throwing q) := by
      refine e3.trans ?_
      rw [hf₂, State.calling_eq hAt.top, State.setFrames_setFrames, State.pushFrame, State.frames_setTop _ hr', State.setTop_of_frames _ hr', State.setFrames_setFrames, hr]
      rfl
    subst hg
    refine Or.inr ⟨q, ⟨(({ U with heap := s₂.heap, slotsUsed := s₂.slotsUsed } : State).setVm s₂.vm), Ls ++ L, c0 + (e_n r.2 - e_n h), s0 + (e_u r.2 - e_u h)⟩,
      ⟨X.admits, X.cas, X.clock, X.frames, X.room, X.hears, X.method, X.code, (X.here.setHeapUsed s₂.heap s₂.slotsUsed).setVm hW'.alike, X.tail, State.WarmedH.trans X.warmed hW', X.limits, X.bytes, X.same.trans (hsame.setVm s.vm)⟩,
      ⟨L, xc, ce, hv, hRel, hce, hcv, hcl, rfl, hL, rfl, rfl⟩, ?_⟩
    show Steps p.tables e below _ (((({ U with heap := s₂.heap, slotsUsed := s₂.slotsUsed } : State).setVm s₂.vm).setTop g).pushFrame (.throwing q))
    rw [← hs₂]
    exact hsteps
variable {K : e_C} {cc : ByteArray} {pc : Nat} {L : List (Option Value)} {h : e_H}
/-- an instruction that calls M: whatever M answers, the walk goes on with it -/
def e_Call (K : e_C) (cc : ByteArray) (pc : Nat) (L : List (Option Value)) (stk rest : List Value) (M : e_M) (args : List Value) (h : e_H) : Prop :=
  ∀ (d : Nat) (r : e_R1), d + 1 ≤ k_d K → e_Run (k_l K) (k_D K) (k_B K) d M args h r → (∀ v, r.1 = .ok v → e_g K cc (pc + 3) L (v.toList ++ rest) r.2) → (∀ c q, r.1 = .error (c, q) → e_gx K cc pc L rest r.2 c q) → e_g K cc pc L stk h
theorem e_callW {M : e_M} {n : Nat} {args stk rest : List Value} (hok : e_mok M n) (hnl : M.2.2.1 ≤ 45)
    (step : ∀ {p : Program} {e : Env} {R : Room} {s : State} {m : MethodId} {sargs : Array Value} {below : List Frame} {meth : Method} {c : Code}, e_Ent K cc p R s m sargs meth c → ∀ (ls : Array Slot) (locs : List Loc) (cells slots : Nat) (T : State), e_Rel (k_D K) (k_B K) h T.heap → ls.size = c.maxLocals →
      Stand p (k_l K) e R s m sargs below meth c T locs cells slots → ∀ {Pre : Pt → Array Value → Prop} {Post : Pt → Array Value → Option Value → Pt → Prop} {PostX : Pt → Array Value → Addr → Pt → Prop}, vx_Back (k_l K) R p e below s sargs M.1 3 8 Pre Post PostX →
      (∀ vm₁, s.WarmedH vm₁ → Pre ⟨T.setVm vm₁, locs, cells, slots⟩ args.toArray) →
      (∃ (v : Option Value) (vm₁ : Vm) (B : Pt), s.WarmedH vm₁ ∧ Stand p (k_l K) e R s m sargs below meth c B.U B.locs B.cells B.slots ∧ Post ⟨T.setVm vm₁, locs, cells, slots⟩ args.toArray v B ∧
        ∀ target, Steps p.tables e below (B.U.setTop (F0 m (pc + 3) ls (v.toList ++ rest))) target → Steps p.tables e below (T.setTop (F0 m pc ls stk)) target) ∨
      (∃ (q : Addr) (vm₁ : Vm) (B : Pt), s.WarmedH vm₁ ∧ Stand p (k_l K) e R s m sargs below meth c B.U B.locs B.cells B.slots ∧ PostX ⟨T.setVm vm₁, locs, cells, slots⟩ args.toArray q B ∧
        Steps p.tables e below (T.setTop (F0 m pc ls stk)) ((B.U.setTop (F0 m pc ls rest)).pushFrame (.throwing q)))) : e_Call K cc pc L stk rest M args h := by
  intro d r hd hRun hOk hErr
  have hle : e_le r.2 (k_r K).2 := by
    cases hr : r.1 with
    | ok v => exact (hOk v hr).1
    | error x => exact (hErr x.1 x.2 hr).1
  refine ⟨hRun.1.trans hle, ?_⟩
  intro p e R s m sargs below meth c E l ls H locs a1 a2 a3 a4 T hT X
  subst hT
  obtain ⟨l1, l2⟩ := l
  obtain ⟨m1, m2⟩ := hRun.1
  obtain ⟨n1, n2⟩ := hle
  have E' := E
  obtain ⟨-, -, hml, -, hts, -, -, -, -, hG, -, d1, d2, d3, d4⟩ := E
  have hK := e_back (R := R) (p := p) (e := e) (below := below) (s := s) (sargs := sargs) (len := 3) hRun hok hts hnl (by omega) (by omega)
  rcases step E' ls locs _ _ T a3 (a1.1.trans (a2.trans hml.symm)) X hK (fun vm₁ hW => ⟨by show (e_n h - e_n (k_h K)) + _ ≤ _; omega, by show (e_u h - e_u (k_h K)) + _ ≤ _; omega, rfl, a3, e_G.moved (U := T.setVm vm₁) hW hG⟩) with
    ⟨v, vm₁, ⟨U', L2, c2, s2⟩, hW₁, X', ⟨Lz, hv, hRel, h1, hLz, h2, h3⟩, st⟩ | ⟨q, vm₁, ⟨U', L2, c2, s2⟩, hW₁, X', ⟨Lz, xc, ce, hv, hRel, hce, hcv, hcl, h1, hLz, h2, h3⟩, st⟩
  · dsimp only [Pt.U, Pt.locs, Pt.cells, Pt.slots] at X' h1 h2 h3 st hRel
    subst h1; subst h2; subst h3
    have W9 := (hOk v hv).2 (p := p) (e := e) (R := R) (s := s) (m := m) (args := sargs) (below := below) (meth := meth) (c := c) E' ⟨by omega, by omega⟩ ls U'.heap (locs ++ Lz) a1 a2 hRel (fun z hz => by
      rcases List.mem_append.mp hz with hz | hz
      · exact a4 z hz
      · exact hLz z hz)
    rw [show e_n r.2 - e_n (k_h K) = e_n h - e_n (k_h K) + (e_n r.2 - e_n h) by omega, show e_u r.2 - e_u (k_h K) = e_u h - e_u (k_h K) + (e_u r.2 - e_u h) by omega] at W9
    obtain ⟨t2, a9, b9⟩ := W9 U' rfl X'
    exact ⟨t2, st t2 a9, b9⟩
  · dsimp only [Pt.U, Pt.locs, Pt.cells, Pt.slots] at X' h1 h2 h3 st hRel hce hcl
    subst h1; subst h2; subst h3
    have W9 := (hErr xc q hv).2 (p := p) (e := e) (R := R) (s := s) (m := m) (args := sargs) (below := below) (meth := meth) (c := c) E' ⟨by omega, by omega⟩ ls U'.heap (locs ++ Lz) ce a1 a2 hRel (fun z hz => by
      rcases List.mem_append.mp hz with hz | hz
      · exact a4 z hz
      · exact hLz z hz) hce hcv (vx_cls hW₁ hcl)
    rw [show e_n r.2 - e_n (k_h K) = e_n h - e_n (k_h K) + (e_n r.2 - e_n h) by omega, show e_u r.2 - e_u (k_h K) = e_u h - e_u (k_h K) + (e_u r.2 - e_u h) by omega] at W9
    obtain ⟨t2, a9, b9⟩ := W9 U' rfl X'
    exact ⟨t2, st.trans a9, b9⟩
theorem e_recv {D : e_D} {B : Heap} {s : State} {H : Heap} (hG : e_G D B s) (hR : e_Rel D B h H) {b c : Nat} {q : vw_C} (hb : e_k h b = some (.inl c)) (hq : e_cl[c]? = some q) : ∃ cell : Cell, H[b]? = some cell ∧ cell.vm.isStatics = false ∧ s.vm.findClass q.1 = some cell.cls := by
  obtain ⟨q', hq', cell, q1, q2, q3, -⟩ := (hR.2.2.2.2 b).ob hb
  cases hq.symm.trans hq'
  exact ⟨cell, q1, by rw [q3]; rfl, by rw [q2]; exact (hG.1 c q hq).2.1⟩
def e_sel (C : String) (x y : MethodName) : Prop := ∀ {args : Array Value} {s : State} {D : e_D} {B : Heap}, (∀ w ∈ lw_all, w.before args s = true) → e_G D B s → (Cond.selects C x y).before args s = true
theorem e_sel.of {C : String} {x y : MethodName} (h : Cond.selects C x y ∈ lw_all) : e_sel C x y := fun hts _ => hts _ h
/-- a private method of a class above -/
theorem e_sel.priv {C : String} {y : MethodName} (h : (C, y) ∈ e_psel) : e_sel C y y := fun {args s D B} _ hG => va_tabs rfl rfl (hG.2.2.2.2.2.2.2.2.1 _ h)
theorem e_psel_of {C : String} {y z z' : MethodName} {args : Array Value} {s : State} (hC : (Cond.selects C z z').before args s = true) (hz : z'.cls = y.cls) (hy : y.cls ≠ "java/lang/invoke/MethodHandle" ∧ y.cls ≠ "java/lang/invoke/VarHandle") (hp : (Cond.privateMethod y).before args s = true) (hi : (Cond.instanceMethod y).before args s = true) : (Cond.selects C y y).before args s = true := by
  obtain ⟨c, r, m2, g1, g2, g3, g4, kP, g5, g6⟩ := Cond.selects_spec hC
  obtain ⟨mk, methM, hnamed, hmethM, -, -⟩ := Cond.instanceMethod_spec hi
  have hfound : s.methodFound? y.cls y.name y.desc = some mk := State.methodFound?_of_named hnamed hy
  have hcls : mk.cls = m2.cls := by
    have h1 := findClass_of_methodNamed hnamed
    have h2 := findClass_of_methodNamed g3
    rw [hz] at h2
    exact Option.some.inj (h1.symm.trans h2)
  have hsel : selectMethod {} s.vm c mk = .method mk := selectMethod_private hmethM (Cond.privateMethod_at hp mk methM hnamed hmethM)
  rw [← hcls] at g5
  simp only [Cond.before, Cond.holds, Cond.value, g1, hfound, hnamed, hsel, g5]
  simp; exact g6
def e_plain (M : e_M) : Prop := M.2.2.2.2 = []
theorem e_cw_plain {M : e_M} (h : e_plain M) : e_cw M = .code M.1 M.2.1 M.2.2.1 M.2.2.2.1 := by unfold e_cw; rw [h]
/-- invokevirtual of M by its own name, on an object of class number ci -/
theorem e_callV {M : e_M} {n idx b ci : Nat} {own : String} {q : vw_C} {As rest : List Value} (hok : e_mok M n) (hpl : e_plain M) (hnl : M.2.2.1 ≤ 45) (hd : decode cc pc = .ok (.invokevirtual idx, 3)) (hown : (k_M K).1.cls = own) (hl : Cond.methodLink own idx M.1 ∈ lw_all) (hi : Cond.instanceMethod M.1 ∈ lw_all)
    (hq : e_cl[ci]? = some q) (hs : e_sel q.1 M.1 M.1) (hb : e_k h b = some (.inl ci)) (hn : As.length = n) (hst : (rest.map fun v => v.category).sum ≤ 8) : e_Call K cc pc L (As.reverse ++ .ref b :: rest) rest M (.ref b :: As) h := by
  refine e_callW hok hnl ?_
  intro p e R s m sargs below meth c E ls locs cells slots T hR hsz X Pre Post PostX hK hpre
  obtain ⟨hx, hbc, hml, -, hts, hown2, -, -, -, hG, -⟩ := E
  subst hown
  obtain ⟨cell, r1, r2, r3⟩ := e_recv hG hR hb hq
  have hc := hts _ hok.1
  rw [e_cw_plain hpl] at hc
  exact vx_callV X hx (C := q.1) hown2 (hts _ hl) (hts _ hi) (hs hts hG) hc hok.2.2.1 hK r1 r2 r3 (g := F0 m pc ls (As.reverse ++ .ref b :: rest)) rfl hsz (argsL := As) (rest := rest) (fun sig h => hn.trans (hok.2.2.2 sig h)) rfl (by show 2 * 0 + _ ≤ _; omega) (by rw [hbc]; exact hd) hpre
/-- .. of M with handlers -/
theorem e_callVW {M : e_M} {n idx b ci : Nat} {own : String} {q : vw_C} {hh : List (Nat × Nat × Nat × Nat)} {As rest : List Value} (hok : e_mok M n) (hpl : e_cw M = .codeWith M.1 M.2.1 M.2.2.1 M.2.2.2.1 hh) (hnl : M.2.2.1 ≤ 45) (hd : decode cc pc = .ok (.invokevirtual idx, 3)) (hown : (k_M K).1.cls = own) (hl : Cond.methodLink own idx M.1 ∈ lw_all) (hi : Cond.instanceMethod M.1 ∈ lw_all)
    (hq : e_cl[ci]? = some q) (hs : e_sel q.1 M.1 M.1) (hb : e_k h b = some (.inl ci)) (hn : As.length = n) (hst : (rest.map fun v => v.category).sum ≤ 8) : e_Call K cc pc L (As.reverse ++ .ref b :: rest) rest M (.ref b :: As) h := by
  refine e_callW hok hnl ?_
  intro p e R s m sargs below meth c E ls locs cells slots T hR hsz X Pre Post PostX hK hpre
  obtain ⟨hx, hbc, hml, -, hts, hown2, -, -, -, hG, -⟩ := E
  subst hown
  obtain ⟨cell, r1, r2, r3⟩ := e_recv hG hR hb hq
  have hc := hts _ hok.1
  rw [hpl] at hc
  exact vx_callVX X hx (C := q.1) hown2 (hts _ hl) (hts _ hi) (hs hts hG) hc hok.2.2.1 hK r1 r2 r3 (g := F0 m pc ls (As.reverse ++ .ref b :: rest)) rfl hsz (argsL := As) (rest := rest) (fun sig h => hn.trans (hok.2.2.2 sig h)) rfl (by show 2 * 0 + _ ≤ _; omega) (by rw [hbc]; exact hd) hpre
/-- .. of a nest mate's private method -/
theorem e_callVN {M : e_M} {n idx b ci : Nat} {own host : String} {q : vw_C} {As rest : List Value} (hok : e_mok M n) (hpl : e_plain M) (hnl : M.2.2.1 ≤ 45) (hd : decode cc pc = .ok (.invokevirtual idx, 3)) (hown : (k_M K).1.cls = own) (hl : Cond.methodLinkNest own idx M.1 host ∈ lw_tbl) (hi : Cond.instanceMethod M.1 ∈ lw_all)
    (hq : e_cl[ci]? = some q) (hs : e_sel q.1 M.1 M.1) (hb : e_k h b = some (.inl ci)) (hn : As.length = n) (hst : (rest.map fun v => v.category).sum ≤ 8) : e_Call K cc pc L (As.reverse ++ .ref b :: rest) rest M (.ref b :: As) h := by
  refine e_callW hok hnl ?_
  intro p e R s m sargs below meth c E ls locs cells slots T hR hsz X Pre Post PostX hK hpre
  obtain ⟨hx, hbc, hml, -, hts, hown2, -, -, -, hG, -⟩ := E
  subst hown
  obtain ⟨cell, r1, r2, r3⟩ := e_recv hG hR hb hq
  have hc := hts _ hok.1
  rw [e_cw_plain hpl] at hc
  exact vx_callVN X hx (C := q.1) hown2 (e_nw_use rfl (hG.2.2.1 _ hl rfl)) (hts _ hi) (hs hts hG) hc hok.2.2.1 hK r1 r2 r3 (g := F0 m pc ls (As.reverse ++ .ref b :: rest)) rfl hsz (argsL := As) (rest := rest) (fun sig h => hn.trans (hok.2.2.2 sig h)) rfl (by show 2 * 0 + _ ≤ _; omega) (by rw [hbc]; exact hd) hpre
/-- .. by the name x of a class above or below, that comes to M -/
theorem e_callVU {M : e_M} {x : MethodName} {n idx b ci : Nat} {own owner : String} {q : vw_C} {As rest : List Value} (hok : e_mok M n) (hpl : e_plain M) (hnl : M.2.2.1 ≤ 45) (hd : decode cc pc = .ok (.invokevirtual idx, 3)) (hown : (k_M K).1.cls = own) (hl : Cond.methodLink own idx x ∈ lw_all) (hsm : Cond.sameMethod x.cls owner x.name x.desc ∈ lw_all)
    (hdc : Cond.declares ⟨owner, x.name, x.desc⟩ ∈ lw_tbl ∨ (⟨owner, x.name, x.desc⟩ = M.1 ∧ Cond.instanceMethod M.1 ∈ lw_all)) (hno : owner ≠ "java/lang/invoke/MethodHandle" ∧ owner ≠ "java/lang/invoke/VarHandle") (hi : Cond.instanceMethod M.1 ∈ lw_all) (hxd : x.desc = M.1.desc)
    (hq : e_cl[ci]? = some q) (hs : e_sel q.1 x M.1) (hb : e_k h b = some (.inl ci)) (hn : As.length = n) (hst : (rest.map fun v => v.category).sum ≤ 8) : e_Call K cc pc L (As.reverse ++ .ref b :: rest) rest M (.ref b :: As) h := by
  refine e_callW hok hnl ?_
  intro p e R s m sargs below meth c E ls locs cells slots T hR hsz X Pre Post PostX hK hpre
  obtain ⟨hx, hbc, hml, -, hts, hown2, -, -, -, hG, -⟩ := E
  subst hown
  obtain ⟨cell, r1, r2, r3⟩ := e_recv hG hR hb hq
  have hc := hts _ hok.1
  rw [e_cw_plain hpl] at hc
  have hdecl : va_Decl s ⟨owner, x.name, x.desc⟩ := by
    rcases hdc with hdc | ⟨e1, e2⟩
    · exact va_Decl.abs (hG.2.2.1 _ hdc rfl)
    · rw [e1]
      exact va_Decl.of (hts _ e2) hc
  exact vx_callVU X hx (C := q.1) hown2 (hts _ hl) (hts _ hsm) hdecl hno (hs hts hG) (hts _ hi) hc hK r1 r2 r3 (g := F0 m pc ls (As.reverse ++ .ref b :: rest)) rfl hsz (argsL := As) (rest := rest) (fun sig h => hn.trans (hok.2.2.2 sig (by rw [← hxd]; exact h))) rfl (by show 2 * 0 + _ ≤ _; omega) (by rw [hbc]; exact hd) hpre
/-- invokestatic -/
theorem e_callS {M : e_M} {n idx : Nat} {own : String} {As rest : List Value} (hok : e_mok M n) (hpl : e_plain M) (hnl : M.2.2.1 ≤ 45) (hd : decode cc pc = .ok (.invokestatic idx, 3)) (hown : (k_M K).1.cls = own) (hl : Cond.methodLink own idx M.1 ∈ lw_all) (hi : Cond.static M.1 ∈ lw_all) (hn : As.length = n) (hst : (rest.map fun v => v.category).sum ≤ 8) : e_Call K cc pc L (As.reverse ++ rest) rest M As h := by
  refine e_callW hok hnl ?_
  intro p e R s m sargs below meth c E ls locs cells slots T hR hsz X Pre Post PostX hK hpre
  obtain ⟨hx, hbc, hml, -, hts, hown2, -, -, -, hG, -⟩ := E
  subst hown
  have hc := hts _ hok.1
  rw [e_cw_plain hpl] at hc
  exact vx_callS X hx hown2 (hts _ hl) (hts _ hi) (hts _ hok.2.1) hc hok.2.2.1 hK (g := F0 m pc ls (As.reverse ++ rest)) rfl hsz (argsL := As) (rest := rest) (fun sig h => hn.trans (hok.2.2.2 sig h)) rfl (by show 2 * 0 + _ ≤ _; omega) (by rw [hbc]; exact hd) hpre
theorem e_callSW {M : e_M} {n idx : Nat} {own : String} {hh : List (Nat × Nat × Nat × Nat)} {As rest : List Value} (hok : e_mok M n) (hpl : e_cw M = .codeWith M.1 M.2.1 M.2.2.1 M.2.2.2.1 hh) (hnl : M.2.2.1 ≤ 45) (hd : decode cc pc = .ok (.invokestatic idx, 3)) (hown : (k_M K).1.cls = own) (hl : Cond.methodLink own idx M.1 ∈ lw_all) (hi : Cond.static M.1 ∈ lw_all) (hn : As.length = n) (hst : (rest.map fun v => v.category).sum ≤ 8) : e_Call K cc pc L (As.reverse ++ rest) rest M As h := by
  refine e_callW hok hnl ?_
  intro p e R s m sargs below meth c E ls locs cells slots T hR hsz X Pre Post PostX hK hpre
  obtain ⟨hx, hbc, hml, -, hts, hown2, -, -, -, hG, -⟩ := E
  subst hown
  have hc := hts _ hok.1
  rw [hpl] at hc
  exact vx_callSX X hx hown2 (hts _ hl) (hts _ hi) (hts _ hok.2.1) hc hok.2.2.1 hK (g := F0 m pc ls (As.reverse ++ rest)) rfl hsz (argsL := As) (rest := rest) (fun sig h => hn.trans (hok.2.2.2 sig h)) rfl (by show 2 * 0 + _ ≤ _; omega) (by rw [hbc]; exact hd) hpre
/-- .. of a nest mate's -/
theorem e_callSN {M : e_M} {n idx : Nat} {own host : String} {As rest : List Value} (hok : e_mok M n) (hpl : e_plain M) (hnl : M.2.2.1 ≤ 45) (hd : decode cc pc = .ok (.invokestatic idx, 3)) (hown : (k_M K).1.cls = own) (hl : Cond.methodLinkNest own idx M.1 host ∈ lw_tbl) (hi : Cond.static M.1 ∈ lw_all) (hn : As.length = n) (hst : (rest.map fun v => v.category).sum ≤ 8) : e_Call K cc pc L (As.reverse ++ rest) rest M As h := by
  refine e_callW hok hnl ?_
  intro p e R s m sargs below meth c E ls locs cells slots T hR hsz X Pre Post PostX hK hpre
  obtain ⟨hx, hbc, hml, -, hts, hown2, -, -, -, hG, -⟩ := E
  subst hown
  have hc := hts _ hok.1
  rw [e_cw_plain hpl] at hc
  exact vx_callSN X hx hown2 (e_nw_use rfl (hG.2.2.1 _ hl rfl)) (hts _ hi) (hts _ hok.2.1) hc hok.2.2.1 hK (g := F0 m pc ls (As.reverse ++ rest)) rfl hsz (argsL := As) (rest := rest) (fun sig h => hn.trans (hok.2.2.2 sig h)) rfl (by show 2 * 0 + _ ≤ _; omega) (by rw [hbc]; exact hd) hpre
/-- invokespecial of a constructor, of this class, another or the one above -/
theorem e_callI {M : e_M} {n idx b : Nat} {own : String} {As rest : List Value} (hok : e_mok M n) (hpl : e_plain M) (hret : M.2.2.2.1 = none) (hini : M.1.name = "<init>") (hnl : M.2.2.1 ≤ 45) (hd : decode cc pc = .ok (.invokespecial idx, 3)) (hown : (k_M K).1.cls = own) (hl : Cond.methodLink own idx M.1 ∈ lw_all) (hi : Cond.instanceMethod M.1 ∈ lw_all) (hn : As.length = n) (hst : (rest.map fun v => v.category).sum ≤ 8) : e_Call K cc pc L (As.reverse ++ .ref b :: rest) rest M (.ref b :: As) h := by
  refine e_callW hok hnl ?_
  intro p e R s m sargs below meth c E ls locs cells slots T hR hsz X Pre Post PostX hK hpre
  obtain ⟨hx, hbc, hml, -, hts, hown2, -, -, -, hG, -⟩ := E
  subst hown
  have hc := hts _ hok.1
  rw [e_cw_plain hpl, hret] at hc
  exact vx_callI X hx hown2 hini (hts _ hl) (hts _ hi) hc hok.2.2.1 hK (g := F0 m pc ls (As.reverse ++ .ref b :: rest)) rfl hsz (argsL := As) (rest := rest) (fun sig h => hn.trans (hok.2.2.2 sig h)) rfl (by show 2 * 0 + _ ≤ _; omega) (by rw [hbc]; exact hd) hpre
theorem e_callIN {M : e_M} {n idx b : Nat} {own host : String} {As rest : List Value} (hok : e_mok M n) (hpl : e_plain M) (hret : M.2.2.2.1 = none) (hini : M.1.name = "<init>") (hnl : M.2.2.1 ≤ 45) (hd : decode cc pc = .ok (.invokespecial idx, 3)) (hown : (k_M K).1.cls = own) (hl : Cond.methodLinkNest own idx M.1 host ∈ lw_tbl) (hi : Cond.instanceMethod M.1 ∈ lw_all) (hn : As.length = n) (hst : (rest.map fun v => v.category).sum ≤ 8) : e_Call K cc pc L (As.reverse ++ .ref b :: rest) rest M (.ref b :: As) h := by
  refine e_callW hok hnl ?_
  intro p e R s m sargs below meth c E ls locs cells slots T hR hsz X Pre Post PostX hK hpre
  obtain ⟨hx, hbc, hml, -, hts, hown2, -, -, -, hG, -⟩ := E
  subst hown
  have hc := hts _ hok.1
  rw [e_cw_plain hpl, hret] at hc
  exact vx_callIN X hx hown2 hini (e_nw_use rfl (hG.2.2.1 _ hl rfl)) (hts _ hi) hc hok.2.2.1 hK (g := F0 m pc ls (As.reverse ++ .ref b :: rest)) rfl hsz (argsL := As) (rest := rest) (fun sig h => hn.trans (hok.2.2.2 sig h)) rfl (by show 2 * 0 + _ ≤ _; omega) (by rw [hbc]; exact hd) hpre
end CALLS
