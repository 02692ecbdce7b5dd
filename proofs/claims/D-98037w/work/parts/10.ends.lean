/-! ENGINE 7: what calls answer; returns; entries; throws -/
section ENDS
variable {K : e_C} {cc : ByteArray} {pc : Nat} {L : List (Option Value)} {h : e_H} {γ : Type} {Q : γ → Prop} {M : e_M} {args stk rest st : List Value} {d : Nat}
def e_b2 {α β γ : Type} (X : Option (α × β)) (Y : α → β → Option γ) : Option γ := X.bind fun z => Y z.1 z.2
def e_b3 {α γ : Type} (X : Option (Except (Nat × Nat) α × e_H)) (Z : Nat × Nat → e_H → Option γ) (Y : α → e_H → Option γ) : Option γ := X.bind fun z => match z.1 with
  | .ok v => Y v z.2
  | .error x => Z x z.2
theorem e_ro {α : Type} {V : α → Option Value} {X0 : Option α} {Y : α → Option γ} (hc : e_Call K cc pc L stk rest M args h) (hd : d + 1 ≤ k_d K) (hf : ∀ v, X0 = some v → e_Run (k_l K) (k_D K) (k_B K) d M args h (.ok (V v), h))
    (kk : ∀ v, X0 = some v → Sx K cc (pc + 3) L ((V v).toList ++ rest) h (Y v) Q) : Sx K cc pc L stk h (X0.bind Y) Q := by
  refine Sx.ask fun v e => ?_
  intro v9 e9 q9
  refine hc d _ hd (hf v e) (fun w hw => ?_) (fun c q hw => by cases hw)
  cases hw
  exact kk v e v9 e9 q9
theorem S_roI {X0 : Option Int32} {Y : Int32 → Option γ} (hc : e_Call K cc pc L stk rest M args h) (hd : d + 1 ≤ k_d K) (hf : ∀ v, X0 = some v → e_Run (k_l K) (k_D K) (k_B K) d M args h (.ok (some (.int v)), h))
    (kk : ∀ v, X0 = some v → Sx K cc (pc + 3) L (.int v :: rest) h (Y v) Q) : Sx K cc pc L stk h (X0.bind Y) Q := e_ro (V := fun v => some (.int v)) hc hd hf kk
theorem S_roJ {X0 : Option Int64} {Y : Int64 → Option γ} (hc : e_Call K cc pc L stk rest M args h) (hd : d + 1 ≤ k_d K) (hf : ∀ v, X0 = some v → e_Run (k_l K) (k_D K) (k_B K) d M args h (.ok (some (.long v)), h))
    (kk : ∀ v, X0 = some v → Sx K cc (pc + 3) L (.long v :: rest) h (Y v) Q) : Sx K cc pc L stk h (X0.bind Y) Q := e_ro (V := fun v => some (.long v)) hc hd hf kk
theorem S_roA {X0 : Option Nat} {Y : Nat → Option γ} (hc : e_Call K cc pc L stk rest M args h) (hd : d + 1 ≤ k_d K) (hf : ∀ v, X0 = some v → e_Run (k_l K) (k_D K) (k_B K) d M args h (.ok (some (.ref v)), h))
    (kk : ∀ v, X0 = some v → Sx K cc (pc + 3) L (.ref v :: rest) h (Y v) Q) : Sx K cc pc L stk h (X0.bind Y) Q := e_ro (V := fun v => some (.ref v)) hc hd hf kk
theorem e_rw {α : Type} {V : α → Option Value} {X0 : Option (α × e_H)} {Y : α → e_H → Option γ} (hc : e_Call K cc pc L stk rest M args h) (hd : d + 1 ≤ k_d K) (hf : ∀ v h1, X0 = some (v, h1) → e_Run (k_l K) (k_D K) (k_B K) d M args h (.ok (V v), h1))
    (kk : ∀ v h1, X0 = some (v, h1) → Sx K cc (pc + 3) L ((V v).toList ++ rest) h1 (Y v h1) Q) : Sx K cc pc L stk h (e_b2 X0 Y) Q := by
  refine Sx.ask fun z e => ?_
  obtain ⟨v, h1⟩ := z
  intro v9 e9 q9
  refine hc d _ hd (hf v h1 e) (fun w hw => ?_) (fun c q hw => by cases hw)
  cases hw
  exact kk v h1 e v9 e9 q9
theorem S_rwI {X0 : Option (Int32 × e_H)} {Y : Int32 → e_H → Option γ} (hc : e_Call K cc pc L stk rest M args h) (hd : d + 1 ≤ k_d K) (hf : ∀ v h1, X0 = some (v, h1) → e_Run (k_l K) (k_D K) (k_B K) d M args h (.ok (some (.int v)), h1))
    (kk : ∀ v h1, X0 = some (v, h1) → Sx K cc (pc + 3) L (.int v :: rest) h1 (Y v h1) Q) : Sx K cc pc L stk h (e_b2 X0 Y) Q := e_rw (V := fun v => some (.int v)) hc hd hf kk
theorem S_rwJ {X0 : Option (Int64 × e_H)} {Y : Int64 → e_H → Option γ} (hc : e_Call K cc pc L stk rest M args h) (hd : d + 1 ≤ k_d K) (hf : ∀ v h1, X0 = some (v, h1) → e_Run (k_l K) (k_D K) (k_B K) d M args h (.ok (some (.long v)), h1))
    (kk : ∀ v h1, X0 = some (v, h1) → Sx K cc (pc + 3) L (.long v :: rest) h1 (Y v h1) Q) : Sx K cc pc L stk h (e_b2 X0 Y) Q := e_rw (V := fun v => some (.long v)) hc hd hf kk
theorem S_rwA {X0 : Option (Nat × e_H)} {Y : Nat → e_H → Option γ} (hc : e_Call K cc pc L stk rest M args h) (hd : d + 1 ≤ k_d K) (hf : ∀ v h1, X0 = some (v, h1) → e_Run (k_l K) (k_D K) (k_B K) d M args h (.ok (some (.ref v)), h1))
    (kk : ∀ v h1, X0 = some (v, h1) → Sx K cc (pc + 3) L (.ref v :: rest) h1 (Y v h1) Q) : Sx K cc pc L stk h (e_b2 X0 Y) Q := e_rw (V := fun v => some (.ref v)) hc hd hf kk
theorem S_rwV {X0 : Option e_H} {Y : e_H → Option γ} (hc : e_Call K cc pc L stk rest M args h) (hd : d + 1 ≤ k_d K) (hf : ∀ h1, X0 = some h1 → e_Run (k_l K) (k_D K) (k_B K) d M args h (.ok none, h1))
    (kk : ∀ h1, X0 = some h1 → Sx K cc (pc + 3) L rest h1 (Y h1) Q) : Sx K cc pc L stk h (X0.bind Y) Q := by
  refine Sx.ask fun h1 e => ?_
  intro v9 e9 q9
  refine hc d _ hd (hf h1 e) (fun w hw => ?_) (fun c q hw => by cases hw)
  cases hw
  exact kk h1 e v9 e9 q9
theorem e_ex {α : Type} {V : α → Option Value} {X0 : Option (Except (Nat × Nat) α × e_H)} {Y : α → e_H → Option γ} {Z : Nat × Nat → e_H → Option γ} (hc : e_Call K cc pc L stk rest M args h) (hd : d + 1 ≤ k_d K) (hf : ∀ o h1, X0 = some (o, h1) → e_Run (k_l K) (k_D K) (k_B K) d M args h (o.map V, h1))
    (kx : ∀ x h1, X0 = some (.error x, h1) → SxX K cc pc L rest h1 x.1 x.2 (Z x h1) Q) (kk : ∀ v h1, X0 = some (.ok v, h1) → Sx K cc (pc + 3) L ((V v).toList ++ rest) h1 (Y v h1) Q) : Sx K cc pc L stk h (e_b3 X0 Z Y) Q := by
  refine Sx.ask fun z e => ?_
  obtain ⟨o, h1⟩ := z
  intro v9 e9 q9
  cases o with
  | ok v =>
    refine hc d _ hd (hf _ h1 e) (fun w hw => ?_) (fun c q hw => by cases hw)
    cases hw
    exact kk v h1 e v9 e9 q9
  | error x =>
    refine hc d _ hd (hf _ h1 e) (fun w hw => by cases hw) (fun c q hw => ?_)
    cases hw
    exact kx _ h1 e v9 e9 q9
theorem S_exI {X0 : Option (Except (Nat × Nat) Int32 × e_H)} {Y : Int32 → e_H → Option γ} {Z : Nat × Nat → e_H → Option γ} (hc : e_Call K cc pc L stk rest M args h) (hd : d + 1 ≤ k_d K) (hf : ∀ o h1, X0 = some (o, h1) → e_Run (k_l K) (k_D K) (k_B K) d M args h (o.map (fun v => some (.int v)), h1))
    (kx : ∀ x h1, X0 = some (.error x, h1) → SxX K cc pc L rest h1 x.1 x.2 (Z x h1) Q) (kk : ∀ v h1, X0 = some (.ok v, h1) → Sx K cc (pc + 3) L (.int v :: rest) h1 (Y v h1) Q) : Sx K cc pc L stk h (e_b3 X0 Z Y) Q := e_ex (V := fun v => some (.int v)) hc hd hf kx kk
theorem S_exA {X0 : Option (Except (Nat × Nat) Nat × e_H)} {Y : Nat → e_H → Option γ} {Z : Nat × Nat → e_H → Option γ} (hc : e_Call K cc pc L stk rest M args h) (hd : d + 1 ≤ k_d K) (hf : ∀ o h1, X0 = some (o, h1) → e_Run (k_l K) (k_D K) (k_B K) d M args h (o.map (fun v => some (.ref v)), h1))
    (kx : ∀ x h1, X0 = some (.error x, h1) → SxX K cc pc L rest h1 x.1 x.2 (Z x h1) Q) (kk : ∀ v h1, X0 = some (.ok v, h1) → Sx K cc (pc + 3) L (.ref v :: rest) h1 (Y v h1) Q) : Sx K cc pc L stk h (e_b3 X0 Z Y) Q := e_ex (V := fun v => some (.ref v)) hc hd hf kx kk
theorem S_exV {X0 : Option (Except (Nat × Nat) Unit × e_H)} {Y : Unit → e_H → Option γ} {Z : Nat × Nat → e_H → Option γ} (hc : e_Call K cc pc L stk rest M args h) (hd : d + 1 ≤ k_d K) (hf : ∀ o h1, X0 = some (o, h1) → e_Run (k_l K) (k_D K) (k_B K) d M args h (o.map (fun _ => none), h1))
    (kx : ∀ x h1, X0 = some (.error x, h1) → SxX K cc pc L rest h1 x.1 x.2 (Z x h1) Q) (kk : ∀ v h1, X0 = some (.ok v, h1) → Sx K cc (pc + 3) L rest h1 (Y v h1) Q) : Sx K cc pc L stk h (e_b3 X0 Z Y) Q := e_ex (V := fun _ => none) hc hd hf kx kk
/-- an object of class number c -/
def e_is (h : e_H) (a c : Nat) : Option Unit := if e_k h a = some (.inl c) then some () else none
theorem e_is_of {h : e_H} {a c : Nat} {u : Unit} (e : e_is h a c = some u) : e_k h a = some (.inl c) := by
  unfold e_is at e
  split at e
  · assumption
  · cases e
def e_zq (v : Int32) : Option Unit := if v = 0 ∨ v = 1 then some () else none
theorem e_zq_of {v : Int32} {u : Unit} (e : e_zq v = some u) : v = 0 ∨ v = 1 := by
  unfold e_zq at e
  split at e
  · assumption
  · cases e
theorem e_narZ {v : Int32} (h : v = 0 ∨ v = 1) : narrow .boolean (.int v) = .int v ∧ fits .boolean (.int v) = true := by
  rcases h with rfl | rfl <;> exact ⟨rfl, rfl⟩
/-! returns -/
theorem e_retEnd {w : γ} {v : Option Value} (hQ : Q w → k_r K = (.ok v, h))
    (row : ∀ {p : Program} {e : Env} {R : Room} {s : State} {m : MethodId} {args : Array Value} {below : List Frame} {meth : Method} {c : Code} (_ : e_Ent K cc p R s m args meth c) (ls : Array Slot) (H : Heap) (locs : List Loc), (∀ z ∈ locs, (k_B K).size ≤ z.base) →
      W p (k_l K) e R s m args below meth c H locs (e_n h - e_n (k_h K)) (e_u h - e_u (k_h K)) (MQ below (fun _ _ o t => o = .returned v ∧ t.heap = H) args s (e_n h - e_n (k_h K)) (e_u h - e_u (k_h K)) (fun q => (k_B K).size ≤ q)) (F0 m pc ls stk)) : Sx K cc pc L stk h (some w) Q := by
  intro v9 e9 q9
  cases e9
  have hr := hQ q9
  refine ⟨by rw [hr]; exact e_le.rf h, ?_⟩
  intro p e R s m args below meth c E l ls H locs a1 a2 a3 a4
  refine W.mono ?_ (row E ls H locs a4)
  rintro t ⟨o, b1, b2, ⟨b3, b4⟩, Lz, ⟨-, b5, b6⟩, b7⟩
  refine ⟨o, b1, b2, ?_⟩
  unfold e_End
  rw [hr]
  exact ⟨by rw [b4]; exact a3, b5, ⟨Lz, b6, b7⟩, Or.inl ⟨v, rfl, b3⟩⟩
theorem S_iret {ty : FieldType} {v : Int32} {w : γ} (hd : decode cc pc = .ok (.ireturn, 1)) (hr : (k_M K).2.2.2.1 = some ty) (hn : narrow ty (.int v) = .int v) (hQ : Q w → k_r K = (.ok (some (.int v)), h)) : Sx K cc pc L [.int v] h (some w) Q := by
  refine e_retEnd hQ ?_
  intro p e R s m args below meth c E ls H locs a4
  exact W.zret E.1 E.2.1 (E.2.2.2.1.trans hr) hn (fun t ht _ => ⟨rfl, ht⟩) a4 hd E.2.2.2.2.2.2.1
theorem S_lret {v : Int64} {w : γ} (hd : decode cc pc = .ok (.lreturn, 1)) (hr : (k_M K).2.2.2.1 = some .long) (hQ : Q w → k_r K = (.ok (some (.long v)), h)) : Sx K cc pc L [.long v] h (some w) Q := by
  refine e_retEnd hQ ?_
  intro p e R s m args below meth c E ls H locs a4
  exact W.lret E.1 E.2.1 (E.2.2.2.1.trans hr) (fun t ht _ => ⟨rfl, ht⟩) a4 hd E.2.2.2.2.2.2.1
theorem S_aret {v : Nat} {rt : FieldType} {w : γ} (hd : decode cc pc = .ok (.areturn, 1)) (hr : (k_M K).2.2.2.1 = some rt) (hrt : (∃ n, rt = .object n) ∨ ∃ t, rt = .array t) (hQ : Q w → k_r K = (.ok (some (.ref v)), h)) : Sx K cc pc L [.ref v] h (some w) Q := by
  refine e_retEnd hQ ?_
  intro p e R s m args below meth c E ls H locs a4
  exact W.aret E.1 E.2.1 (E.2.2.2.1.trans hr) hrt (Or.inr ⟨v, rfl⟩) (fun t ht _ => ⟨rfl, ht⟩) a4 hd E.2.2.2.2.2.2.1
theorem S_vret {w : γ} (hd : decode cc pc = .ok (.return_, 1)) (hr : (k_M K).2.2.2.1 = none) (hQ : Q w → k_r K = (.ok none, h)) : Sx K cc pc L [] h (some w) Q := by
  refine e_retEnd hQ ?_
  intro p e R s m args below meth c E ls H locs a4
  exact W.vret E.1 E.2.1 (E.2.2.2.1.trans hr) (fun t ht _ => ⟨rfl, ht⟩) a4 hd E.2.2.2.2.2.2.1
/-! entries -/
theorem e_of_body {l : Launch} {D : e_D} {B : Heap} {r : e_R1} {p : Program} {e : Env} {s s₁ : State} {m : MethodId} {as : Array Value} {below : List Frame} {meth : Method} {c : Code} {L0 : List (Option Value)} (hL0 : L0.length = M.2.2.1) (hL1 : e_as 0 L0 = lv_args 0 args) (hL2 : (lg_sl args).length ≤ M.2.2.1)
    (body : e_g (l, D, B, M, d, h, r) M.2.1 0 L0 [] h)
    (Bd : BodyLoose p l M.1 (headSpec (e_ws M) (e_room d h r.2)) M.2.1 M.2.2.1 M.2.2.2.1 e s m as below meth c s₁) (hml : c.maxLocals = M.2.2.1) (hP : as = args.toArray ∧ e_Rel D B h s.heap ∧ e_G D B s) (htab : c.exceptionTable.toList = tableOf M.2.2.2.2) :
    W p l e (e_room d h r.2) s m as below meth c s.heap [] 0 0 (e_Z (l, D, B, M, d, h, r) below s) (entryFrame m as M.2.2.1) := by
  obtain ⟨rfl, hR, hG⟩ := hP
  have hts0 := atoms_spec (ws := e_ws M) Bd.pre
  have hl := lv_entry args (n := M.2.2.1) hL2
  rw [lg_entry_eq]
  have hE : e_Ent (l, D, B, M, d, h, r) M.2.1 p (e_room d h r.2) s m args.toArray meth c :=
    ⟨Bd.exec, Bd.bytes, hml, Bd.returns, fun w hw => hts0 w (List.mem_cons_of_mem _ hw), findClass_of_methodNamed Bd.named, Bd.notSynchronized, (name_of_methodNamed Bd.named Bd.method).1, htab, hG, hR, Nat.le_refl _, Nat.le_refl _, Nat.le_refl _, Nat.le_refl _⟩
  have := body.2 (p := p) (e := e) (R := e_room d h r.2) (s := s) (m := m) (args := args.toArray) (below := below) (meth := meth) (c := c) hE (e_le.rf h) _ s.heap [] ⟨by rw [hL0]; exact hl.1, hl.2.1, fun q hq => hl.2.2 q (by rw [← hL1]; exact hq)⟩ hL0 hR (fun z hz => by cases hz)
  have e1 : e_n h - e_n h = 0 := Nat.sub_self _
  have e2 : e_u h - e_u h = 0 := Nat.sub_self _
  dsimp only [k_h] at this
  rw [e1, e2] at this
  exact this
theorem e_run_of {l : Launch} {D : e_D} {B : Heap} {r : e_R1} (L0 : List (Option Value)) (hy : plainName M.1.cls = true) (hpl : e_plain M) (hL0 : L0.length = M.2.2.1) (hL1 : e_as 0 L0 = lv_args 0 args) (hL2 : (lg_sl args).length ≤ M.2.2.1)
    (body : e_g (l, D, B, M, d, h, r) M.2.1 0 L0 [] h) : e_Run l D B d M args h r := by
  refine ⟨body.1, ?_⟩
  refine MetFree.of_bodyS (code := M.2.1) (maxLocals := M.2.2.1) (ret := M.2.2.2.1) hy ?_ ?_
  · intro as s m hp hn
    have hc := atoms_spec (ws := e_ws M) hp _ List.mem_cons_self
    rw [e_cw_plain hpl] at hc
    obtain ⟨meth, c, h1, h2, h3, h4, h5, h6, -, -⟩ := Cond.code_spec hn hc
    exact ⟨meth, c, h1, h2, h3, h4, h5, h6⟩
  · intro p e s m as below meth c s₁ Bd hml hP _
    have hh0 : s₁.heap = s.heap := by rw [Bd.state]; rfl
    have htab : c.exceptionTable.toList = tableOf M.2.2.2.2 := by
      have hc := atoms_spec (ws := e_ws M) Bd.pre _ List.mem_cons_self
      rw [e_cw_plain hpl] at hc
      obtain ⟨meth9, c9, h1, h2, -, -, -, -, h7, -⟩ := Cond.code_spec Bd.named hc
      cases Option.some.inj (h1.symm.trans Bd.method)
      cases Option.some.inj (h2.symm.trans (Stand.of_body Bd).code)
      rw [hpl, Array.isEmpty_iff.mp h7]
      rfl
    obtain ⟨t, a1, o, b1, b2, b3⟩ := e_of_body hL0 hL1 hL2 body Bd hml hP htab s₁ hh0 (Stand.of_body Bd)
    exact ⟨t, o, a1, b1, b2, b3⟩
theorem e_run_ofW {l : Launch} {D : e_D} {B : Heap} {r : e_R1} (L0 : List (Option Value)) (hy : plainName M.1.cls = true) (hpl : e_cw M = .codeWith M.1 M.2.1 M.2.2.1 M.2.2.2.1 M.2.2.2.2) (hL0 : L0.length = M.2.2.1) (hL1 : e_as 0 L0 = lv_args 0 args) (hL2 : (lg_sl args).length ≤ M.2.2.1)
    (body : e_g (l, D, B, M, d, h, r) M.2.1 0 L0 [] h) : e_Run l D B d M args h r := by
  refine ⟨body.1, ?_⟩
  refine MetFree.of_bodyS (code := M.2.1) (maxLocals := M.2.2.1) (ret := M.2.2.2.1) hy ?_ ?_
  · intro as s m hp hn
    have hc := atoms_spec (ws := e_ws M) hp _ List.mem_cons_self
    rw [hpl] at hc
    obtain ⟨m9, meth, c, hn9, h1, h2, h3, h4, -, h5, h6, -⟩ := Cond.codeWith_spec hc
    cases hn.symm.trans hn9
    exact ⟨meth, c, h1, h2, h3, h4, h5, h6⟩
  · intro p e s m as below meth c s₁ Bd hml hP _
    have hh0 : s₁.heap = s.heap := by rw [Bd.state]; rfl
    have hc := atoms_spec (ws := e_ws M) Bd.pre _ List.mem_cons_self
    rw [hpl] at hc
    obtain ⟨t, a1, o, b1, b2, b3⟩ := e_of_body hL0 hL1 hL2 body Bd hml hP (vx_table (x := M.1) Bd hc) s₁ hh0 (Stand.of_body Bd)
    exact ⟨t, o, a1, b1, b2, b3⟩
theorem e_start {l : Launch} {D : e_D} {B : Heap} {r : e_R1} (L0 : List (Option Value)) (hy : plainName M.1.cls = true) (hpl : e_plain M) (hL0 : L0.length = M.2.2.1) (hL1 : e_as 0 L0 = lv_args 0 args) (hL2 : (lg_sl args).length ≤ M.2.2.1)
    (body : ∀ K : e_C, k_l K = l → k_D K = D → k_B K = B → k_M K = M → k_d K = d → k_r K = r → e_g K M.2.1 0 L0 [] h) : e_Run l D B d M args h r := e_run_of L0 hy hpl hL0 hL1 hL2 (body (l, D, B, M, d, h, r) rfl rfl rfl rfl rfl rfl)
theorem e_startW {l : Launch} {D : e_D} {B : Heap} {r : e_R1} (L0 : List (Option Value)) (hy : plainName M.1.cls = true) (hpl : e_cw M = .codeWith M.1 M.2.1 M.2.2.1 M.2.2.2.1 M.2.2.2.2) (hL0 : L0.length = M.2.2.1) (hL1 : e_as 0 L0 = lv_args 0 args) (hL2 : (lg_sl args).length ≤ M.2.2.1)
    (body : ∀ K : e_C, k_l K = l → k_D K = D → k_B K = B → k_M K = M → k_d K = d → k_r K = r → e_g K M.2.1 0 L0 [] h) : e_Run l D B d M args h r := e_run_ofW L0 hy hpl hL0 hL1 hL2 (body (l, D, B, M, d, h, r) rfl rfl rfl rfl rfl rfl)
/-! throws -/
/-- a Fault that was made before is thrown -/
theorem S_athrow {q : Nat} {X : Option γ} (hd : decode cc pc = .ok (.athrow, 1)) (hk : e_k h q = some (.inl 1)) (k : SxX K cc pc L rest h 0 q X Q) : Sx K cc pc L (.ref q :: rest) h X Q := by
  intro v9 e9 q9
  obtain ⟨k1, k2⟩ := k v9 e9 q9
  refine ⟨k1, ?_⟩
  intro p e R s m args below meth c E l ls H locs a1 a2 a3 a4
  obtain ⟨cell, r1, r2, r3⟩ := e_recv E.2.2.2.2.2.2.2.2.2.1 a3 hk (q := (RX2, TX2, 8)) rfl
  obtain ⟨q', hq', cell', s1, s2, s3, -⟩ := (a3.2.2.2.2 q).ob hk
  cases r1.symm.trans s1
  exact vx_athrow E.1 E.2.1 hd (k2 (p := p) (e := e) (R := R) (s := s) (m := m) (args := args) (below := below) (meth := meth) (c := c) E l ls H locs cell a1 a2 a3 a4 r1 s3 r3)
theorem SxX.cond {c : Prop} [Decidable c] {x q : Nat} {Y : Option γ} (k : c → SxX K cc pc L rest h x q Y Q) : SxX K cc pc L rest h x q (if c then Y else none) Q := by
  intro v e q9
  by_cases hc : c
  · rw [if_pos hc] at e; exact k hc v e q9
  · rw [if_neg hc] at e; cases e
/-- not caught here: on to the caller -/
theorem SxX.out {x q : Nat} {w : γ} (ht : ∀ z ∈ tableOf (k_M K).2.2.2.2, covers z pc = false) (hQ : Q w → k_r K = (.error (x, q), h)) : SxX K cc pc L rest h x q (some w) Q := by
  intro v9 e9 q9
  cases e9
  have hr := hQ q9
  refine ⟨by rw [hr]; exact e_le.rf h, ?_⟩
  intro p e R s m args below meth c E l ls H locs ce a1 a2 a3 a4 hce hcv hcl
  intro T hT X
  have hlocks : meth.locks = false := E.2.2.2.2.2.2.1
  obtain ⟨st1, hrun, hend, hW, hsm⟩ := X.leaveThrown q (g := F0 m pc ls rest) rfl rfl rfl (by rw [E.2.2.2.2.2.2.2.2.1]; exact ht) hlocks
  have hheap : (T.setFrames (.throwing q :: below)).heap = H := by
    show T.heap = H
    exact hT
  refine ⟨_, st1, .threw q, hrun, hend, ?_⟩
  unfold e_End
  rw [hr]
  exact ⟨by rw [hheap]; exact a3, hW, ⟨locs, hsm, a4⟩, Or.inr ⟨x, q, ce, rfl, rfl, by rw [hheap]; exact hce, hcv, hcl⟩⟩
/-- caught by the first row of the table that covers -/
theorem SxX.catch {x q : Nat} {own name : String} {X : Option γ} (pre : List ExceptionTableEntry) (z : ExceptionTableEntry) (suf : List ExceptionTableEntry) (hown : (k_M K).1.cls = own) (hsplit : tableOf (k_M K).2.2.2.2 = pre ++ z :: suf) (hpass : ∀ y ∈ pre, covers y pc = false) (hx : covers z pc = true) (h0 : z.catchType ≠ 0)
    (hl : Cond.classLink own z.catchType name ∈ lw_all) (hca : Cond.castable (e_xn x) name ∈ lw_tbl) (k : Sx K cc z.handlerPc L [.ref q] h X Q) : SxX K cc pc L rest h x q X Q := by
  intro v9 e9 q9
  obtain ⟨k1, k2⟩ := k v9 e9 q9
  refine ⟨k1, ?_⟩
  intro p e R s m args below meth c E l ls H locs ce a1 a2 a3 a4 hce hcv hcl
  subst hown
  exact vx_catch E.2.2.2.2.2.1 pre z suf (E.2.2.2.2.2.2.2.2.1.trans hsplit) (fun y hy => Or.inl (hpass y hy)) hx h0 (E.2.2.2.2.1 _ hl) (e_nw_use rfl (E.2.2.2.2.2.2.2.2.2.1.2.2.1 _ hca rfl)) hce hcv hcl (k2 (p := p) (e := e) (R := R) (s := s) (m := m) (args := args) (below := below) (meth := meth) (c := c) E l ls H locs a1 a2 a3 a4)
/-- 'throw new E()' of class number x, no traces kept (follows vx_make0 of kit/laws): new; dup; invokespecial; athrow -/
theorem S_throw0 {own : String} {names : List String} {ik ic x : Nat} {Z : Nat → e_H → Option γ} (hown : (k_M K).1.cls = own) (hl : (k_l K).stackTraces = false) (hcls : Bundle.fit (e_xn x) = true) (hnames : ∀ n ∈ names, Bundle.fit n = true)
    (hk : Cond.classLink own ik (e_xn x) ∈ lw_all) (hini : Cond.initialized (e_xn x) ∈ lw_all) (hat : ∀ w ∈ vx_at0 own ic (e_xn x) names, (w ∈ lw_all ∨ (w ∈ lw_tbl ∧ e_nw w = true))) (hins : Cond.instantiable (e_xn x) 6 ∈ lw_all)
    (hgood : ∀ w ∈ Cond.classLink own ik (e_xn x) :: Cond.initialized (e_xn x) :: vx_at0 own ic (e_xn x) names, vx_ot w = true)
    (d0 : decode cc pc = .ok (.new ik, 3)) (d3 : decode cc (pc + 3) = .ok (.dup, 1)) (d4 : decode cc (pc + 4) = .ok (.invokespecial ic, 3)) (d7 : decode cc (pc + 7) = .ok (.athrow, 1))
    (hdp : names.length + 4 ≤ k_d K) (hst : (st.map fun v => v.category).sum ≤ 8)
    (kk : SxX K cc (pc + 7) L st (e_bump h 6) x (e_n h) (Z (e_n h) (e_bump h 6)) Q) : Sx K cc pc L st h (Z (e_n h) (e_bump h 6)) Q := by
  intro v9 e9 q9
  obtain ⟨k1, k2⟩ := kk v9 e9 q9
  have hn : e_n (e_bump h 6) = e_n h + 1 := rfl
  have hu : e_u (e_bump h 6) = e_u h + 6 := rfl
  obtain ⟨k1a, k1b⟩ := k1
  rw [hn] at k1a
  rw [hu] at k1b
  refine ⟨⟨by omega, by omega⟩, ?_⟩
  intro p e R s m args below meth c E lle ls H locs a1 a2 a3 a4
  obtain ⟨l1, l2⟩ := lle
  have E' := E
  obtain ⟨hexec, hb, hml, -, hts, hown2, -, -, -, hG, hR0, dd1, dd2, cc1, cc2⟩ := E
  subst hown
  have hsize : ls.size = c.maxLocals := a1.1.trans (a2.trans hml.symm)
  intro T hT X
  subst hT
  have htr : e.platform.stackTraces = false := (show e.platform.stackTraces = (k_l K).stackTraces by rw [X.admits.platform]).trans hl
  have Y := vx_rebase X (R' := { frames := R.frames, locals := R.locals, cells := 1, slots := 6 }) (Nat.le_refl _) (Nat.le_refl _) (by show _ + 1 ≤ _; omega) (by show _ + 6 ≤ _; omega)
  obtain ⟨s', hA'⟩ : ∃ z, z = (T.setVm s.vm).setFrames (.invoking m args :: below) := ⟨_, rfl⟩
  rw [← hA'] at Y
  have hvm : s'.vm = s.vm := by rw [hA']; rfl
  have hhp : s'.heap = T.heap := by rw [hA']; rfl
  have hW0 : s.WarmedH s'.vm := by rw [hvm]; exact State.WarmedH.refl s
  have hat0 : ∀ w ∈ vx_at0 (k_M K).1.cls ic (e_xn x) names, w.before args s = true := fun w hw => by
    rcases hat w hw with h | ⟨h, g⟩
    · exact hts _ h
    · exact e_nw_use g (hG.2.2.1 _ h g)
  have hat' : ∀ w ∈ vx_at0 (k_M K).1.cls ic (e_xn x) names, w.before args s' = true := fun w hw => vx_ot_at hW0 hvm.symm (hgood w (List.mem_cons_of_mem _ (List.mem_cons_of_mem _ hw))) (hat0 w hw)
  have hk' : (Cond.classLink (k_M K).1.cls ik (e_xn x)).before args s' = true := vx_ot_at hW0 hvm.symm (hgood _ List.mem_cons_self) (hts _ hk)
  have hini' : (Cond.initialized (e_xn x)).before args s' = true := vx_ot_at hW0 hvm.symm (hgood _ (List.mem_cons_of_mem _ List.mem_cons_self)) (hts _ hini)
  have old : ∀ a : Nat, a < (k_B K).size → ¬ ((k_B K).size ≤ a) → T.heap[a]? = (k_B K)[a]? := fun a ha _ => a3.2.2.1 a ha
  have hU' : vx_Zq Bundle.tN "UNASSIGNED_STACK" Bundle.steD (fun q => (k_B K).size ≤ q) s' s'.heap := by rw [hhp]; exact vx_Zq.moved hW0.alike (hG.2.2.2.2.1.kept old)
  have hN' : vx_Zq Bundle.tN "SUPPRESSED_SENTINEL" Bundle.listD (fun q => (k_B K).size ≤ q) s' s'.heap := by rw [hhp]; exact vx_Zq.moved hW0.alike (hG.2.2.2.2.2.1.kept old)
  have hall : ∀ w ∈ Bundle.ownAtoms0 (k_M K).1.cls ic (e_xn x) names, w.before args s' = true := vx_own hat' (vx_isRefq hU'.1) (vx_isRefq hN'.1) hU'.2.word hN'.2.word
  have hown' : s'.vm.findClass (k_M K).1.cls = some m.cls := by rw [hvm]; exact hown2
  have hins' : (Cond.instantiable (e_xn x) 6).before args s' = true := hall _ (by simp [Bundle.ownAtoms0])
  have d0' : decode c.code pc = .ok (.new ik, 3) := by rw [hb]; exact d0
  obtain ⟨vm₁, cX, kX, hfX, hkX, -, -, X₁, st1⟩ := Y.newCold hexec (own := (k_M K).1.cls) (C := e_xn x) (index := ik) (n := 6) hown' hk' hins' hini'
    (g := F0 m pc ls st) rfl d0' (Nat.le_refl _) (Nat.le_refl _)
  generalize hT1 : (T.setVm vm₁).pushCell { cls := cX, slots := kX.instanceTypes.map defaultValue, vm := .none } = T1 at X₁ st1
  have hcat : (Value.ref T.heap.size).category = 1 := rfl
  have hcellA : T1.heap[T.heap.size]? = some (freshCell cX kX) := by rw [← hT1]; exact State.heap_pushCell_size _ _
  have d3' : decode c.code (pc + 3) = .ok (.dup, 1) := by rw [hb]; exact d3
  obtain ⟨V, ce, Lz, Z9, hLz, hlt, hcl9, hvm9, stt⟩ := vx_ctorMade0 X₁ hexec htr (own := (k_M K).1.cls) (cls := e_xn x) (names := names) (ic := ic) hown' hcls hnames hall (fun x hx => nomatch hx) hfX hkX hcellA (by rw [hhp]; exact Nat.le_refl _)
    (g := { method := m, pc := pc + 4, locals := ls, stack := .ref T.heap.size :: .ref T.heap.size :: st, locked := none }) rfl hsize (rest := st) rfl
    (by rw [hb]; exact d4) (by show names.length + 3 < R.frames; omega) (by
      simp only [List.map_cons, List.sum_cons, hcat]
      show 2 * 0 + _ + _ ≤ R.locals
      omega)
  have Z0 := Stand.forget (locs := []) Z9 (fun y hy => by rw [hLz y hy, hhp]; exact Nat.le_refl _)
  have hsz := a3.1
  obtain ⟨f1, f2⟩ := vx_frame Z0.same
  rw [hhp] at f1 f2
  have hh : (V.setCell T.heap.size ce).heap[T.heap.size]? = some ce := heapAt_setCell_self (s := V) ce hlt
  have hup : (V.setCell T.heap.size ce).heap.size = T.heap.size + 1 := by
    have u1 := Z0.heapSize
    rw [hhp] at u1
    have u2 : T.heap.size < (V.setCell T.heap.size ce).heap.size := (Array.getElem?_eq_some_iff.mp hh).1
    omega
  have hfX2 : s.vm.findClass (e_xn x) = some ce.cls := by
    rw [hvm] at hfX
    rw [hcl9]
    exact hfX
  subst hA'
  have X5 := vx_back9 X Y Z0
  have X6 : Stand p (k_l K) e R s m args below meth c (V.setCell T.heap.size ce) locs (e_n h - e_n (k_h K) + 1) (e_u h - e_u (k_h K) + 6) := { X5 with same := X5.same.mono (by omega) (by omega) }
  have hRel : e_Rel (k_D K) (k_B K) (e_bump h 6) (V.setCell T.heap.size ce).heap := by
    obtain ⟨r1, r2, r3, r4, r5⟩ := a3
    refine ⟨by rw [hup, hn, r1], by rw [hn]; omega, fun q hq => ?_, fun b hb9 => ?_, fun b => ?_⟩
    · rw [f2 q (by omega) (fun z hz => nomatch hz)]
      exact r3 q hq
    · rw [e_k_bump] at hb9
      by_cases eb : b = e_n h
      · rw [if_pos eb] at hb9
        exact absurd rfl hb9
      · rw [if_neg eb] at hb9
        have := r4 b hb9
        rw [hn]
        omega
    · by_cases eb : b = e_n h
      · unfold e_At
        rw [e_k_bump, if_pos eb]
        trivial
      · by_cases hkb : e_k h b = none
        · unfold e_At
          rw [e_k_bump, if_neg eb, hkb]
          trivial
        · have hb9 := r4 b hkb
          refine (r5 b).kept (f2 b (by omega) (fun z hz => nomatch hz)) (by rw [e_k_bump, if_neg eb]) (fun ty k => ?_)
          unfold e_V
          rw [e_I_bump, e_J_bump, e_R_bump]
  have W9 := k2 (p := p) (e := e) (R := R) (s := s) (m := m) (args := args) (below := below) (meth := meth) (c := c) E' ⟨by omega, by omega⟩ ls (V.setCell T.heap.size ce).heap locs ce a1 a2 hRel a4 (by rw [← hsz]; exact hh) hvm9 hfX2
  rw [hn, hu, show e_n h + 1 - e_n (k_h K) = e_n h - e_n (k_h K) + 1 by omega, show e_u h + 6 - e_u (k_h K) = e_u h - e_u (k_h K) + 6 by omega] at W9
  have W8 := vx_athrow (pc := pc + 7) hexec hb d7 W9
  obtain ⟨t, b1, b2⟩ := W8 _ rfl X6
  refine ⟨t, st1 _ ?_, b2⟩
  show Steps p.tables e below (T1.setTop { method := m, pc := pc + 3, locals := ls, stack := .ref T.heap.size :: st, locked := none }) _
  jvm_step X₁.here [X₁.here.top, hexec, d3', Value.category]
  rw [← hsz] at b1
  exact stt _ b1
def e_bumpb {α : Type} (h : e_H) (w : Nat) (Y : Nat → e_H → Option α) : Option α := Y (e_n h) (e_bump h w)
theorem S_mabs {own : String} {idx : Nat} {x : Int32} {X : Option γ} (hd : decode cc pc = .ok (.invokestatic idx, 3)) (hown : (k_M K).1.cls = own) (hl : Cond.methodLink own idx ⟨"java/lang/Math", "abs", "(I)I"⟩ ∈ lw_all) (hdp : 1 ≤ k_d K) (hst : (st.map fun v => v.category).sum ≤ 50) (k : Sx K cc (pc + 3) L (.int (if 0 ≤ x then x else 0 - x) :: st) h X Q) : Sx K cc pc L (.int x :: st) h X Q := by
  intro v9 e9 q9
  have k9 := k v9 e9 q9
  refine e_lift k9 ?_
  intro W9 p e R s m args below meth c E l ls H locs a1 a2 a3 a4
  have E' := E
  obtain ⟨hx, hb, hml, -, hts, hown2, -, -, -, -, -, d1, d2, c1, c2⟩ := E
  subst hown
  obtain ⟨n1, n2⟩ := k9.1
  exact va_mabs hx hb (by rw [hml, a1.1, a2]) hown2 (hts _ hl) (hts _ q1090) (hts _ q124) (hts _ q1091) (by omega) (by omega) (by omega) (by omega) hd (W9 E' l ls H locs a1 a2 a3 a4)
theorem S_mmax {own : String} {idx : Nat} {x y : Int32} {X : Option γ} (hd : decode cc pc = .ok (.invokestatic idx, 3)) (hown : (k_M K).1.cls = own) (hl : Cond.methodLink own idx ⟨"java/lang/Math", "max", "(II)I"⟩ ∈ lw_all) (hdp : 1 ≤ k_d K) (hst : (st.map fun v => v.category).sum ≤ 50) (k : Sx K cc (pc + 3) L (.int (if x < y then y else x) :: st) h X Q) : Sx K cc pc L (.int y :: .int x :: st) h X Q := by
  intro v9 e9 q9
  have k9 := k v9 e9 q9
  refine e_lift k9 ?_
  intro W9 p e R s m args below meth c E l ls H locs a1 a2 a3 a4
  have E' := E
  obtain ⟨hx, hb, hml, -, hts, hown2, -, -, -, -, -, d1, d2, c1, c2⟩ := E
  subst hown
  obtain ⟨n1, n2⟩ := k9.1
  exact va_mmax hx hb (by rw [hml, a1.1, a2]) hown2 (hts _ hl) (hts _ q823) (hts _ q124) (hts _ q824) (by omega) (by omega) (by omega) (by omega) hd (W9 E' l ls H locs a1 a2 a3 a4)
theorem S_mmin {own : String} {idx : Nat} {x y : Int32} {X : Option γ} (hd : decode cc pc = .ok (.invokestatic idx, 3)) (hown : (k_M K).1.cls = own) (hl : Cond.methodLink own idx ⟨"java/lang/Math", "min", "(II)I"⟩ ∈ lw_all) (hdp : 1 ≤ k_d K) (hst : (st.map fun v => v.category).sum ≤ 50) (k : Sx K cc (pc + 3) L (.int (if y < x then y else x) :: st) h X Q) : Sx K cc pc L (.int y :: .int x :: st) h X Q := by
  intro v9 e9 q9
  have k9 := k v9 e9 q9
  refine e_lift k9 ?_
  intro W9 p e R s m args below meth c E l ls H locs a1 a2 a3 a4
  have E' := E
  obtain ⟨hx, hb, hml, -, hts, hown2, -, -, -, -, -, d1, d2, c1, c2⟩ := E
  subst hown
  obtain ⟨n1, n2⟩ := k9.1
  exact va_mmin hx hb (by rw [hml, a1.1, a2]) hown2 (hts _ hl) (hts _ q820) (hts _ q124) (hts _ q821) (by omega) (by omega) (by omega) (by omega) hd (W9 E' l ls H locs a1 a2 a3 a4)
/-! String constants -/
/-- the bytes of the String constant at w -/
def e_str (A : Nat → Nat) (w : Nat) : Option (List Int32) := ((List.range 17).find? (fun i => A i == w)).map fun i => e_sb.getD i []
def e_slen (t : List Int32) : Option Int32 := some (nI t.length)
def e_sat (t : List Int32) (i : Int32) : Option Int32 := if i < 0 ∨ t.length ≤ i.toNatClampNeg then none else some (t.getD i.toNatClampNeg 0)
theorem e_str_of {A : Nat → Nat} {w : Nat} {t : List Int32} (e : e_str A w = some t) : ∃ i, i < 17 ∧ A i = w ∧ t = e_sb.getD i [] := by
  unfold e_str at e
  rw [Option.map_eq_some_iff] at e
  obtain ⟨i, e1, e2⟩ := e
  have h1 := List.mem_range.mp (List.mem_of_find?_eq_some e1)
  have h2 := List.find?_some e1
  exact ⟨i, h1, by simpa using h2, e2.symm⟩
theorem e_callStr {n idx b : Nat} {own : String} {As rest : List Value} (hok : e_mok M n) (hpl : e_plain M) (hnl : M.2.2.1 ≤ 45) (hd : decode cc pc = .ok (.invokevirtual idx, 3)) (hown : (k_M K).1.cls = own) (hl : Cond.methodLink own idx M.1 ∈ lw_all) (hi : Cond.instanceMethod M.1 ∈ lw_all)
    (hs : e_sel "java/lang/String" M.1 M.1) {t : List Int32} (hb : ∃ i, i < 17 ∧ (k_D K).2.2.1 i = b ∧ t = e_sb.getD i []) (hn : As.length = n) (hst : (rest.map fun v => v.category).sum ≤ 8) : e_Call K cc pc L (As.reverse ++ .ref b :: rest) rest M (.ref b :: As) h := by
  refine e_callW hok hnl ?_
  intro p e R s m sargs below meth c E ls locs cells slots T hR hsz X Pre Post PostX hK hpre
  obtain ⟨hx, hbc, hml, -, hts, hown2, -, -, -, hG, -⟩ := E
  subst hown
  obtain ⟨i, hi17, rfl, -⟩ := hb
  obtain ⟨cv, g1, g2, g3, g4⟩ := (hG.2.2.2.2.2.2.1.1 i hi17).1
  have hlt : (k_D K).2.2.1 i < (k_B K).size := (Array.getElem?_eq_some_iff.mp g1).1
  have r1 : T.heap[(k_D K).2.2.1 i]? = some cv := (hR.2.2.1 _ hlt).trans g1
  have hc := hts _ hok.1
  rw [e_cw_plain hpl] at hc
  exact vx_callV X hx (C := "java/lang/String") hown2 (hts _ hl) (hts _ hi) (hs hts hG) hc hok.2.2.1 hK r1 g2 g3 (g := F0 m pc ls (As.reverse ++ .ref ((k_D K).2.2.1 i) :: rest)) rfl hsz (argsL := As) (rest := rest) (fun sig h => hn.trans (hok.2.2.2 sig h)) rfl (by show 2 * 0 + _ ≤ _; omega) (by rw [hbc]; exact hd) hpre
/-! calls of Cond.is: by the receiver's class -/
def e_xCond : MethodName := ⟨"PegBands$Cond", "is", "(LPegBands;I)Z"⟩
def e_Disp (l : Launch) (D : e_D) (B : Heap) (d : Nat) (h : e_H) (a0 a1 : Nat) (a2 v : Int32) (h1 : e_H) : Prop :=
  ∃ (ci : Nat) (M : e_M) (q : vw_C), e_k h a0 = some (.inl ci) ∧ e_cl[ci]? = some q ∧ e_sel q.1 e_xCond M.1 ∧ e_mok M 2 ∧ e_plain M ∧ M.2.2.1 ≤ 45 ∧ Cond.instanceMethod M.1 ∈ lw_all ∧ e_xCond.desc = M.1.desc ∧ e_Run l D B d M [.ref a0, .ref a1, .int a2] h (.ok (some (.int v)), h1)
theorem S_disp {own : String} {idx a0 a1 : Nat} {a2 : Int32} {X0 : Option (Int32 × e_H)} {Y : Int32 → e_H → Option γ} (hd : decode cc pc = .ok (.invokevirtual idx, 3)) (hown : (k_M K).1.cls = own) (hl : Cond.methodLink own idx e_xCond ∈ lw_all) (hdd : d + 1 ≤ k_d K) (hst : (rest.map fun v => v.category).sum ≤ 8)
    (hf : ∀ {v : Int32} {h1 : e_H}, X0 = some (v, h1) → e_Disp (k_l K) (k_D K) (k_B K) d h a0 a1 a2 v h1) (kk : ∀ v h1, X0 = some (v, h1) → Sx K cc (pc + 3) L (.int v :: rest) h1 (Y v h1) Q) : Sx K cc pc L (.int a2 :: .ref a1 :: .ref a0 :: rest) h (e_b2 X0 Y) Q := by
  refine Sx.ask fun z e => ?_
  obtain ⟨v, h1⟩ := z
  obtain ⟨ci, M, q, f1, f2, f3, f4, f5, f6, f7, f8, f9⟩ := hf e
  intro v9 e9 q9
  refine e_callVU (M := M) (b := a0) (x := e_xCond) (owner := "PegBands$Cond") (As := [.ref a1, .int a2]) (rest := rest) f4 f5 f6 hd hown hl q1345 (Or.inl q1344) (by decide) f7 f8 f2 f3 f1 rfl hst d _ hdd f9 (fun w hw => ?_) (fun c q hw => by cases hw)
  cases hw
  exact kk v h1 e v9 e9 q9
end ENDS
