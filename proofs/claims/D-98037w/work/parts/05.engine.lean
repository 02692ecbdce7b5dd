/-! ENGINE 2: the machine over the abstract heap -/
theorem e_apart {s : State} {args : Array Value} {D : e_D} {c : Nat} {q : vw_C} (hts : ∀ w ∈ lw_all, w.before args s = true) (hq : e_cl[c]? = some q) (hKn : u_Kn s q.1 q.2.1 q.2.2 (D.1.1 c) (D.1.2 c)) :
    ∀ x y, x < q.2.2 → y < q.2.2 → x ≠ y → D.1.2 c x ≠ D.1.2 c y := by
  intro x y hx hy hne
  obtain ⟨hin, hty, hnm⟩ := e_cl_ok c q hq
  obtain ⟨hS, -⟩ := hKn
  obtain ⟨_, _, _, fa, hia, ea⟩ := hS x hx
  obtain ⟨_, _, _, fb, hib, eb⟩ := hS y hy
  rw [← ea, ← eb]
  rcases hnm x hx y hy hne with h | ⟨f1, f2, h⟩
  · refine u_apart (u_lays hts hin hx) (u_lays hts hin hy) hia hib ?_
    rw [(State.fieldFound?_type hia (hty x hx)).1, (State.fieldFound?_type hib (hty y hy)).1]
    exact h
  · have l1 := hts _ (hin _ (u_in_lay hx))
    have l2 := hts _ (hin _ (u_in_lay hy))
    unfold u_lay at l1 l2
    rw [if_pos f1] at l1
    rw [if_pos f2] at l2
    obtain ⟨c1, k1, c1', k1', i1, f1', r1, r2, r3, -, -, -, r4, -, d1, t1, t2, -⟩ := Cond.laysFinal_spec l1
    obtain ⟨c2, k2, c2', k2', i2, f2', s1, s2, s3, -, -, -, s4, -, d2, u1, u2, -⟩ := Cond.laysFinal_spec l2
    cases r3.symm.trans hia
    cases s3.symm.trans hib
    cases r1.symm.trans s1
    intro e
    rw [e] at t1
    cases t1.symm.trans u1
    obtain ⟨ka, ha, na⟩ := Vm.findClass_spec r4
    obtain ⟨kb, hb, nb⟩ := Vm.findClass_spec s4
    have ha2 := (State.fieldFound?_spec r3).1
    have hb2 := (State.fieldFound?_spec s3).1
    cases ha.symm.trans ha2
    cases hb.symm.trans hb2
    exact h (by rw [← na, ← nb, ← t2, ← u2])
/-- words that don't ride in lw_all -/
def e_nw : Cond → Bool
  | .fieldLinkNest _ _ _ _ _ _ => true
  | .methodLinkNest _ _ _ _ => true
  | .castable _ _ => true
  | .declares _ => true
  | .arrayOver (.object _) => true
  | .arrayOver (.array _) => true
  | _ => false
theorem e_nw_moved {w : Cond} (hw : e_nw w = true) {s U : State} (hW : s.WarmedH U.vm) (h : w.before #[] s = true) : w.before #[] U = true := by
  cases w <;> simp only [e_nw, Bool.false_eq_true] at hw
  case fieldLinkNest => exact va_Nw.warmF hW h
  case methodLinkNest => exact va_Nw.warmM hW h
  case castable => exact va_Nw.warmC hW h
  case declares => exact va_Nw.warmD hW h
  case arrayOver ty =>
    cases ty <;> simp only [Bool.false_eq_true] at hw
    case object C => exact va_AO.moved hW.alike h
    case array t => exact over_moved hW.alike h
theorem e_nw_use {w : Cond} (hw : e_nw w = true) {A : Array Value} {U : State} (h : w.before #[] U = true) : w.before A U = true := by
  cases w <;> simp only [e_nw, Bool.false_eq_true] at hw <;> exact h
/-- the String constants: class, entry, text, number of the text -/
def e_strs : List (String × Nat × String × Nat) := [("PegBands", 22, "board", 0), ("PegBands", 24, "bell", 1), ("PegBands", 26, "out", 2), ("PegBands", 28, "band", 3), ("PegBands", 30, "at", 4), ("PegBands", 32, "by", 5), ("PegBands", 34, "or", 6), ("PegBands", 36, "and", 7), ("PegBands", 38, "not", 8), ("PegBands", 40, "in", 9), ("PegBands", 42, "alike", 10), ("PegBands", 44, "bent", 11), ("PegBands", 46, "area", 12), ("PegBands", 48, "on", 13), ("PegBands", 50, "within", 14), ("PegBands", 52, "corners", 15), ("PegBands", 54, "right", 16), ("PegBands$SentenceReader", 17, "area", 12), ("PegBands$SentenceReader", 19, "on", 13), ("PegBands$SentenceReader", 21, "within", 14), ("PegBands$SentenceReader", 23, "corners", 15), ("PegBands$SentenceReader", 25, "right", 16), ("PegBands$BoardReader", 23, "board", 0), ("PegBands$BoardReader", 49, "band", 3), ("PegBands$BoardReader", 55, "out", 2), ("PegBands$BoardReader", 57, "bell", 1), ("PegBands$CallsReader", 19, "at", 4), ("PegBands$CallsReader", 60, "by", 5), ("PegBands$SentenceReader", 75, "not", 8), ("PegBands$SentenceReader", 80, "in", 9), ("PegBands$SentenceReader", 82, "alike", 10), ("PegBands$SentenceReader", 84, "bent", 11), ("PegBands$SentenceReader", 70, "and", 7), ("PegBands$SentenceReader", 53, "or", 6)]
def e_sl : List Nat := [5, 4, 3, 4, 2, 2, 2, 3, 3, 2, 5, 4, 4, 2, 6, 7, 5]
def e_sb : List (List Int32) := [[98, 111, 97, 114, 100], [98, 101, 108, 108], [111, 117, 116], [98, 97, 110, 100], [97, 116], [98, 121], [111, 114], [97, 110, 100], [110, 111, 116], [105, 110], [97, 108, 105, 107, 101], [98, 101, 110, 116], [97, 114, 101, 97], [111, 110], [119, 105, 116, 104, 105, 110], [99, 111, 114, 110, 101, 114, 115], [114, 105, 103, 104, 116]]
/-- private methods of Reader, called on objects of the classes below it -/
def e_prd : List MethodName := [⟨"PegBands$Reader", "peek", "()I"⟩, ⟨"PegBands$Reader", "isLetter", "(I)Z"⟩, ⟨"PegBands$Reader", "isDigit", "(I)Z"⟩, ⟨"PegBands$Reader", "run", "(Z)V"⟩]
def e_psel : List (String × MethodName) := ["PegBands$BoardReader", "PegBands$CallsReader", "PegBands$SentenceReader"].flatMap fun C => e_prd.map fun y => (C, y)
/-- what is known of the cells that stood before the law: statics of the JDK, String constants -/
def e_X (D : e_D) (B : Heap) (s : State) : Prop :=
  va_Z "java/lang/String" "COMPACT_STRINGS" "Z" (.int 1) (fun q => B.size ≤ q) s B ∧
  vx_Zq "java/lang/Throwable" "UNASSIGNED_STACK" "[Ljava/lang/StackTraceElement;" (fun q => B.size ≤ q) s B ∧
  vx_Zq "java/lang/Throwable" "SUPPRESSED_SENTINEL" "Ljava/util/List;" (fun q => B.size ≤ q) s B ∧
  vk_S 17 e_sl e_sb D.2.2.1 D.2.2.2 (fun q => B.size ≤ q) s B ∧
  (∀ x ∈ e_strs, vk_R x.1 x.2.1 x.2.2.1 (D.2.2.1 x.2.2.2) s) ∧ (∀ q ∈ e_psel, (Cond.selects q.1 q.2 q.2).before #[] s = true) ∧ va_Zq "jdk/internal/util/Preconditions" "SIOOBE_FORMATTER" "Ljava/util/function/BiFunction;" (fun q => B.size ≤ q) s B ∧
  va_X (D.2.2.1 100) (D.2.2.1 101) (fun j => Int32.ofNat (D.2.2.2 (100 + j))) s B ∧ D.2.2.1 100 < B.size
theorem e_X.moved {D : e_D} {B : Heap} {s U : State} (hW : s.WarmedH U.vm) (h : e_X D B s) : e_X D B U :=
  ⟨va_Z.moved hW.alike h.1, vx_Zq.moved hW.alike h.2.1, vx_Zq.moved hW.alike h.2.2.1, vk_S.moved hW.alike h.2.2.2.1, fun x hx => vk_R.warm hW (h.2.2.2.2.1 x hx), fun q hq => word_at hW (Or.inl rfl) (h.2.2.2.2.2.1 q hq), va_Zq.moved hW.alike h.2.2.2.2.2.2.1, va_X.moved hW.alike h.2.2.2.2.2.2.2.1, h.2.2.2.2.2.2.2.2⟩
def e_cn : FieldType → String := fun t => match t with
  | .object C => C
  | t => t.toString
/-- an array class of the tables: found by its name; of references: by its component's -/
def e_RA (s : State) (cA : ClassId) (ty : FieldType) : Prop := s.vm.findClass ("[" ++ ty.toString) = some cA ∧ (ty.isReference = true → ∃ (kA : Class) (comp : ClassId), s.vm.classes[cA]? = some kA ∧ kA.kind = .array comp ty ∧ s.vm.findClass (e_cn ty) = some comp)
theorem e_RA.moved {u U : State} (hvm : u.vm.Alike U.vm) {cA : ClassId} {ty : FieldType} (h : e_RA u cA ty) : e_RA U cA ty := by
  refine ⟨by rw [hvm.findClass]; exact h.1, fun hr => ?_⟩
  obtain ⟨kA, comp, h1, h2, h3⟩ := h.2 hr
  obtain ⟨k', hk', he⟩ := hvm.2.2 _ _ h1
  exact ⟨k', comp, hk', by rw [he]; exact h2, by rw [hvm.findClass]; exact h3⟩
/-- what is known of the tables, and of the cells that stood before the law -/
def e_G (D : e_D) (B : Heap) (s : State) : Prop :=
  (∀ (c : Nat) (q : vw_C), e_cl[c]? = some q → u_Kn s q.1 q.2.1 q.2.2 (D.1.1 c) (D.1.2 c)) ∧
  (∀ t, t < 8 → ArrOfT s (D.2.1 t) (e_T t) ∧ e_RA s (D.2.1 t) (e_T t)) ∧ (∀ w ∈ lw_tbl, e_nw w = true → w.before #[] s = true) ∧ e_X D B s
theorem e_G.moved {D : e_D} {B : Heap} {s U : State} (hW : s.WarmedH U.vm) (h : e_G D B s) : e_G D B U :=
  ⟨fun c q hq => u_Kn_moved hW.alike (h.1 c q hq), fun t ht => ⟨arrOfT_moved hW.alike (h.2.1 t ht).1, (h.2.1 t ht).2.moved hW.alike⟩, fun w hw hn => e_nw_moved hn hW (h.2.2.1 w hw hn), h.2.2.2.moved hW⟩
/-- an answer: a value returned, or what was thrown: the number of its class, its address -/
abbrev e_O : Type := Except (Nat × Nat) (Option Value)
abbrev e_R1 : Type := e_O × e_H
def e_xn : Nat → String := fun k => match k with
  | 0 => "PegBands$Fault"
  | _ => "java/util/NoSuchElementException"
/-- what a method owes at its end -/
def e_End (D : e_D) (B : Heap) (h : e_H) (r : e_R1) (s : State) (oc : Outcome) (t : State) : Prop :=
  e_Rel D B r.2 t.heap ∧ s.WarmedH t.vm ∧ (∃ L, s.sameButNew ({ t with vm := s.vm } : State) L (e_n r.2 - e_n h) (e_u r.2 - e_u h) ∧ ∀ z ∈ L, B.size ≤ z.base) ∧
  ((∃ v, r.1 = .ok v ∧ oc = .returned v) ∨ ∃ (c q : Nat) (ce : Cell), r.1 = .error (c, q) ∧ oc = .threw q ∧ t.heap[q]? = some ce ∧ ce.vm = .none ∧ s.vm.findClass (e_xn c) = some ce.cls)
/-- a method: its name, its code, its locals, what it returns, its handlers -/
abbrev e_M : Type := MethodName × ByteArray × Nat × Option FieldType × List (Nat × Nat × Nat × Nat)
def e_cw (M : e_M) : Cond := match M.2.2.2.2 with
  | [] => .code M.1 M.2.1 M.2.2.1 M.2.2.2.1
  | hh => .codeWith M.1 M.2.1 M.2.2.1 M.2.2.2.1 hh
def e_ws (M : e_M) : List Cond := e_cw M :: lw_all
def e_room (d : Nat) (h h' : e_H) : Room := { frames := d, cells := e_n h' - e_n h, slots := e_u h' - e_u h, locals := 64 * d }
/-- THE CONTRACT: M, called with args on h, answers r.1 and leaves r.2, in d frames -/
def e_Run (l : Launch) (D : e_D) (B : Heap) (d : Nat) (M : e_M) (args : List Value) (h : e_H) (r : e_R1) : Prop :=
  e_le h r.2 ∧ MetFree l M.1 (headSpec (e_ws M) (e_room d h r.2)) (fun a U => a = args.toArray ∧ e_Rel D B h U.heap ∧ e_G D B U) (fun _ _ _ _ _ => True) (fun _ s oc t => e_End D B h r s oc t)
/-- a walk's surroundings: launch, numbers, the cells ahead of the law, the method, its depth, the heap at its entry, its answer -/
abbrev e_C : Type := Launch × e_D × Heap × e_M × Nat × e_H × e_R1
abbrev k_l (K : e_C) : Launch := K.1
abbrev k_D (K : e_C) : e_D := K.2.1
abbrev k_B (K : e_C) : Heap := K.2.2.1
abbrev k_M (K : e_C) : e_M := K.2.2.2.1
abbrev k_d (K : e_C) : Nat := K.2.2.2.2.1
abbrev k_h (K : e_C) : e_H := K.2.2.2.2.2.1
abbrev k_r (K : e_C) : e_R1 := K.2.2.2.2.2.2
def e_Z (K : e_C) (below : List Frame) (s : State) : State → Prop := fun t => ∃ o, t.status = .running ∧ Ended t below o ∧ e_End (k_D K) (k_B K) (k_h K) (k_r K) s o t
/-- what holds all through a method -/
def e_Ent (K : e_C) (cc : ByteArray) (p : Program) (R : Room) (s : State) (m : MethodId) (args : Array Value) (meth : Method) (c : Code) : Prop :=
  p.tables.exec = Jvm.exec ∧ c.code = cc ∧ c.maxLocals = (k_M K).2.2.1 ∧ meth.sig.returnType = (k_M K).2.2.2.1 ∧ (∀ w ∈ lw_all, w.before args s = true) ∧ s.vm.findClass (k_M K).1.cls = some m.cls ∧ meth.locks = false ∧ meth.name = (k_M K).1.name ∧
  c.exceptionTable.toList = tableOf (k_M K).2.2.2.2 ∧ e_G (k_D K) (k_B K) s ∧ e_Rel (k_D K) (k_B K) (k_h K) s.heap ∧
  k_d K ≤ R.frames ∧ 64 * k_d K ≤ R.locals ∧ e_n (k_r K).2 - e_n (k_h K) ≤ R.cells ∧ e_u (k_r K).2 - e_u (k_h K) ≤ R.slots
/-- the locals that are known, by place -/
def e_as : Nat → List (Option Value) → List (Nat × Value)
  | _, [] => []
  | i, none :: t => e_as (i + 1) t
  | i, some v :: t => (i, v) :: e_as (i + 1) t
def e_Loc (ls : Array Slot) (L : List (Option Value)) : Prop := lv_has ls L.length (e_as 0 L)
/-- from pc on, the method comes to its answer -/
def e_W (K : e_C) (cc : ByteArray) (pc : Nat) (L : List (Option Value)) (st : List Value) (h : e_H) : Prop :=
  ∀ {p : Program} {e : Env} {R : Room} {s : State} {m : MethodId} {args : Array Value} {below : List Frame} {meth : Method} {c : Code}, e_Ent K cc p R s m args meth c → e_le (k_h K) h →
  ∀ (ls : Array Slot) (H : Heap) (locs : List Loc), e_Loc ls L → L.length = (k_M K).2.2.1 → e_Rel (k_D K) (k_B K) h H → (∀ z ∈ locs, (k_B K).size ≤ z.base) →
  W p (k_l K) e R s m args below meth c H locs (e_n h - e_n (k_h K)) (e_u h - e_u (k_h K)) (e_Z K below s) (F0 m pc ls st)
/-- .. where q has been thrown at pc -/
def e_WX (K : e_C) (cc : ByteArray) (pc : Nat) (L : List (Option Value)) (rest : List Value) (h : e_H) (x : Nat) (q : Nat) : Prop :=
  ∀ {p : Program} {e : Env} {R : Room} {s : State} {m : MethodId} {args : Array Value} {below : List Frame} {meth : Method} {c : Code}, e_Ent K cc p R s m args meth c → e_le (k_h K) h →
  ∀ (ls : Array Slot) (H : Heap) (locs : List Loc) (ce : Cell), e_Loc ls L → L.length = (k_M K).2.2.1 → e_Rel (k_D K) (k_B K) h H → (∀ z ∈ locs, (k_B K).size ≤ z.base) →
  H[q]? = some ce → ce.vm = .none → s.vm.findClass (e_xn x) = some ce.cls →
  vx_W p (k_l K) e R s m args below meth c H locs (e_n h - e_n (k_h K)) (e_u h - e_u (k_h K)) (e_Z K below s) (F0 m pc ls rest) q
def e_g (K : e_C) (cc : ByteArray) (pc : Nat) (L : List (Option Value)) (st : List Value) (h : e_H) : Prop := e_le h (k_r K).2 ∧ e_W K cc pc L st h
def e_gx (K : e_C) (cc : ByteArray) (pc : Nat) (L : List (Option Value)) (rest : List Value) (h : e_H) (x q : Nat) : Prop := e_le h (k_r K).2 ∧ e_WX K cc pc L rest h x q
/-- THE JUDGEMENT: the code from pc on does what X says: if X is v, and v leads to the answer, the machine comes to it -/
def Sx {α : Type} (K : e_C) (cc : ByteArray) (pc : Nat) (L : List (Option Value)) (st : List Value) (h : e_H) (X : Option α) (Q : α → Prop) : Prop := ∀ v, X = some v → Q v → e_g K cc pc L st h
def SxX {α : Type} (K : e_C) (cc : ByteArray) (pc : Nat) (L : List (Option Value)) (rest : List Value) (h : e_H) (x q : Nat) (X : Option α) (Q : α → Prop) : Prop := ∀ v, X = some v → Q v → e_gx K cc pc L rest h x q
theorem W.mono {p : Program} {l : Launch} {e : Env} {R : Room} {s : State} {m : MethodId} {args : Array Value} {below : List Frame} {meth : Method} {c : Code} {H : Heap} {locs : List Loc} {cells slots : Nat} {Q Q' : State → Prop} {g : JFrame} (h : ∀ t, Q t → Q' t) (k : W p l e R s m args below meth c H locs cells slots Q g) : W p l e R s m args below meth c H locs cells slots Q' g := fun T hT X => by
  obtain ⟨t, a, b⟩ := k T hT X
  exact ⟨t, a, h t b⟩
/-! locals -/
theorem e_as_mem {L : List (Option Value)} : ∀ {i : Nat} {q : Nat × Value}, q ∈ e_as i L ↔ i ≤ q.1 ∧ L[q.1 - i]? = some (some q.2) := by
  induction L with
  | nil => intro i q; simp [e_as]
  | cons a t ih =>
    intro i q
    cases a with
    | none =>
      rw [e_as, ih]
      constructor
      · rintro ⟨h1, h2⟩
        refine ⟨by omega, ?_⟩
        rw [show q.1 - i = (q.1 - (i + 1)) + 1 by omega]
        simpa using h2
      · rintro ⟨h1, h2⟩
        have h3 : q.1 ≠ i := by
          intro e
          rw [e, Nat.sub_self] at h2
          simp at h2
        refine ⟨by omega, ?_⟩
        rw [show q.1 - i = (q.1 - (i + 1)) + 1 by omega] at h2
        simpa using h2
    | some v =>
      rw [e_as, List.mem_cons, ih]
      constructor
      · rintro (h | ⟨h1, h2⟩)
        · subst h
          simp
        · refine ⟨by omega, ?_⟩
          rw [show q.1 - i = (q.1 - (i + 1)) + 1 by omega]
          simpa using h2
      · rintro ⟨h1, h2⟩
        by_cases h3 : q.1 = i
        · left
          rw [h3, Nat.sub_self] at h2
          have h4 : v = q.2 := by simpa using h2
          exact Prod.ext h3 h4.symm
        · right
          refine ⟨by omega, ?_⟩
          rw [show q.1 - i = (q.1 - (i + 1)) + 1 by omega] at h2
          simpa using h2
theorem e_Loc.get {ls : Array Slot} {L : List (Option Value)} (h : e_Loc ls L) {i : Nat} {v : Value} (hv : L[i]? = some (some v)) : ls[i]? = some (.val v) :=
  h.2.2 (i, v) (e_as_mem.mpr ⟨Nat.zero_le _, by simpa using hv⟩)
def e_kil (L : List (Option Value)) (i : Nat) : List (Option Value) := match i with
  | 0 => L
  | j + 1 => match L[j]? with
    | some (some (.long _)) => L.set j none
    | some (some (.double _)) => L.set j none
    | _ => L
/-- a value of one word comes to place i: a long that lay there goes -/
def e_set (L : List (Option Value)) (i : Nat) (v : Value) : Option (List (Option Value)) :=
  if i < L.length then some ((e_kil L i).set i (some v)) else none
def e_setL (L : List (Option Value)) (i : Nat) (v : Value) : Option (List (Option Value)) :=
  if i + 1 < L.length then some (((e_kil L i).set i (some v)).set (i + 1) none) else none
theorem e_kill {L : List (Option Value)} {i : Nat} {j : Nat} {w : Value} (h : (e_kil L i)[j]? = some (some w)) : L[j]? = some (some w) ∧ ¬ (j + 1 = i ∧ w.category = 2) := by
  cases i with
  | zero => exact ⟨h, by omega⟩
  | succ k =>
    simp only [e_kil] at h
    split at h
    · rename_i x hx
      rw [List.getElem?_set] at h
      split at h
      · split at h <;> simp at h
      · exact ⟨h, by omega⟩
    · rename_i x hx
      rw [List.getElem?_set] at h
      split at h
      · split at h <;> simp at h
      · exact ⟨h, by omega⟩
    · rename_i hn1 hn2
      refine ⟨h, ?_⟩
      rintro ⟨e, hc⟩
      have e : j = k := by omega
      subst e
      cases w <;> simp [Value.category] at hc
      · exact hn1 _ h
      · exact hn2 _ h
theorem e_kill_len {L : List (Option Value)} {i : Nat} : (e_kil L i).length = L.length := by
  cases i with
  | zero => rfl
  | succ k =>
    simp only [e_kil]
    split <;> simp
theorem e_Loc.put {ls' : Array Slot} {L L' : List (Option Value)} {i : Nat} {v : Value} (hL : e_set L i v = some L') (h : lv_has ls' L.length ((i, v) :: (e_as 0 L).filter (fun q => !(q.1 == i) && !(q.1 + 1 == i && q.2.category == 2)))) : e_Loc ls' L' ∧ L'.length = L.length ∧ i < L.length := by
  unfold e_set at hL
  split at hL
  · rename_i hi
    cases hL
    have hlen : ((e_kil L i).set i (some v)).length = L.length := by rw [List.length_set, e_kill_len]
    refine ⟨⟨by rw [hlen]; exact h.1, h.2.1, fun q hq => h.2.2 q ?_⟩, hlen, hi⟩
    obtain ⟨-, hq⟩ := e_as_mem.mp hq
    rw [Nat.sub_zero, List.getElem?_set] at hq
    split at hq
    · rename_i e
      split at hq
      · have : v = q.2 := by simpa using hq
        exact List.mem_cons.mpr (Or.inl (Prod.ext e.symm this.symm))
      · cases hq
    · rename_i e
      obtain ⟨h1, h2⟩ := e_kill hq
      refine List.mem_cons_of_mem _ (List.mem_filter.mpr ⟨e_as_mem.mpr ⟨Nat.zero_le _, by simpa using h1⟩, ?_⟩)
      have e2 : ¬ q.1 = i := fun x => e x.symm
      by_cases e3 : q.1 + 1 = i
      · have : ¬ q.2.category = 2 := fun x => h2 ⟨e3, x⟩
        simp [e2, this]
      · simp [e2, e3]
  · cases hL
theorem e_Loc.putL {ls' : Array Slot} {L L' : List (Option Value)} {i : Nat} {v : Value} (hL : e_setL L i v = some L') (h : lv_has ls' L.length ((i, v) :: (e_as 0 L).filter (fun q => !(q.1 == i) && (!(q.1 == i + 1) && !(q.1 + 1 == i && q.2.category == 2))))) : e_Loc ls' L' ∧ L'.length = L.length ∧ i + 1 < L.length := by
  unfold e_setL at hL
  split at hL
  · rename_i hi
    cases hL
    have hlen : (((e_kil L i).set i (some v)).set (i + 1) none).length = L.length := by rw [List.length_set, List.length_set, e_kill_len]
    refine ⟨⟨by rw [hlen]; exact h.1, h.2.1, fun q hq => h.2.2 q ?_⟩, hlen, hi⟩
    obtain ⟨-, hq⟩ := e_as_mem.mp hq
    rw [Nat.sub_zero, List.getElem?_set] at hq
    split at hq
    · split at hq <;> simp at hq
    · rename_i e0
      rw [List.getElem?_set] at hq
      split at hq
      · rename_i e
        split at hq
        · have : v = q.2 := by simpa using hq
          exact List.mem_cons.mpr (Or.inl (Prod.ext e.symm this.symm))
        · cases hq
      · rename_i e
        obtain ⟨h1, h2⟩ := e_kill hq
        refine List.mem_cons_of_mem _ (List.mem_filter.mpr ⟨e_as_mem.mpr ⟨Nat.zero_le _, by simpa using h1⟩, ?_⟩)
        have e2 : ¬ q.1 = i := fun x => e x.symm
        have e4 : ¬ q.1 = i + 1 := fun x => e0 x.symm
        by_cases e3 : q.1 + 1 = i
        · have : ¬ q.2.category = 2 := fun x => h2 ⟨e3, x⟩
          simp [e2, e4, this]
        · simp [e2, e3, e4]
  · cases hL
