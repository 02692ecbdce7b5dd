/-! printed by gen/gen.py -/
set_option maxRecDepth 100000
abbrev cX4_sum : ByteArray := prog_7_method_3_code
def yX4_sum : MethodName := ⟨"PegBands$Calls", "sum", "([I)I"⟩
def tb_X4_sum : List (Nat × Instr × Nat) := [(0, .iconst 0, 1), (1, .istore_n 2, 1), (2, .iconst 0, 1), (3, .istore_n 3, 1), (4, .iload_n 3, 1), (5, .aload_n 0, 1), (6, .getfield 31, 3), (9, .if_icmp .ge 15, 3), (12, .iload_n 2, 1), (13, .aload_n 1, 1), (14, .iload_n 3, 1), (15, .iaload, 1), (16, .iadd, 1), (17, .istore_n 2, 1), (18, .iinc 3 1, 3), (21, .goto (-17), 3), (24, .iload_n 2, 1), (25, .ireturn, 1)]
theorem tk_X4_sum : ∀ q ∈ tb_X4_sum, decode cX4_sum q.1 = .ok q.2 := by decide +kernel
theorem dc_X4_sum (k : Nat) {pc n : Nat} {i : Instr} (h : tb_X4_sum[k]? = some (pc, i, n)) : decode cX4_sum pc = .ok (i, n) := tk_X4_sum (pc, i, n) (List.mem_of_getElem? h)
abbrev mX4_sum : e_M := (yX4_sum, cX4_sum, 4, some (.int), [])
theorem ok_X4_sum : e_mok mX4_sum 1 := ⟨q1051, q113, by decide +kernel, fun sig h => by cases h; rfl⟩
def lp_X4_sum_4 (F : Nat) (h : e_H) (a0 : Nat) (a1 : Nat) : Nat → Int32 → Int32 → Option (Int32)
  | 0, _, _ => none
  | n + 1, x2_4, x3_4 =>
    Option.bind (e_fI h a0 3 4) (fun x6 =>
    if x6 ≤ x3_4 then
      some x2_4
    else
      Option.bind (e_aI h a1 0 x3_4) (fun x15 =>
      Option.bind (some (x2_4 + x15)) (fun x17 =>
      Option.bind (some (x3_4 + 1)) (fun x18 =>
      lp_X4_sum_4 F h a0 a1 n x17 x18))))
def f_X4_sum (F : Nat) (h : e_H) (a0 : Nat) (a1 : Nat) : Option Int32 :=
  Option.bind (
      lp_X4_sum_4 F h a0 a1 F 0 0
    : Option (Int32)) (fun x2_24_1 =>
  some x2_24_1)
set_option maxHeartbeats 4000000 in
set_option maxRecDepth 100000 in
theorem ct_X4_sum {l : Launch} {D : e_D} {B : Heap} {F : Nat} {d : Nat} {h : e_H} {a0 : Nat} {a1 : Nat} {v : Int32} (hd : 1 ≤ d) (e : f_X4_sum F h a0 a1 = some v) : e_Run l D B d mX4_sum [.ref a0, .ref a1] h (.ok (some (.int v)), h) := by
  refine e_start [some (.ref a0), some (.ref a1), none, none] (by decide) rfl rfl rfl (Nat.le_of_ble_eq_true rfl) (fun K hl0 hD0 hB0 hM hd0 hr => ?_)
  subst hl0 hD0 hB0 hd0
  have ho : (k_M K).1.cls = "PegBands$Calls" := by rw [hM]; rfl
  have hT : (k_M K).2.2.2.1 = some (.int) := by rw [hM]
  refine (show Sx K cX4_sum 0 [some (.ref a0), some (.ref a1), none, none] [] h (f_X4_sum F h a0 a1) (fun w => w = v) from ?_) _ e rfl
  clear e
  unfold f_X4_sum
  refine S_iconst_ 0 (dc_X4_sum 0 rfl) rfl ?_
  refine S_istore_n (L' := [some (.ref a0), some (.ref a1), some (.int 0), none]) (dc_X4_sum 1 rfl) rfl ?_
  refine S_iconst_ 0 (dc_X4_sum 2 rfl) rfl ?_
  refine S_istore_n (L' := [some (.ref a0), some (.ref a1), some (.int 0), some (.int 0)]) (dc_X4_sum 3 rfl) rfl ?_
  refine Sx.regK1 (pc2 := 24) (L2 := fun (x2_24_1 : Int32) => [none, none, some (.int x2_24_1), none]) (st2 := fun (x2_24_1 : Int32) => []) (h2 := fun (x2_24_1 : Int32) => h) ?_ (fun Q1 hK1 => ?_)
  · intro x2_24_1
    show Sx K cX4_sum 24 [none, none, some (.int x2_24_1), none] [] h _ _
    refine S_iload_n (dc_X4_sum 16 rfl) rfl ?_
    exact S_iret (dc_X4_sum 17 rfl) hT rfl (fun q => by cases q; exact hr)
  · have hK1 : ∀ (x2_24_1 : Int32), Sx K cX4_sum 24 [none, none, some (.int x2_24_1), none] [] h (some x2_24_1) Q1 := hK1
    have ih1 : ∀ (n : Nat) (x2_4 : Int32) (x3_4 : Int32), Sx K cX4_sum 4 [some (.ref a0), some (.ref a1), some (.int x2_4), some (.int x3_4)] [] h (lp_X4_sum_4 F h a0 a1 n x2_4 x3_4) Q1 := by
      intro n
      induction n with
      | zero => intro x2_4 x3_4; exact Sx.none
      | succ n ih1 =>
        intro x2_4 x3_4
        rw [lp_X4_sum_4.eq_2]
        refine S_iload_n (dc_X4_sum 4 rfl) rfl ?_
        refine S_aload_n (dc_X4_sum 5 rfl) rfl ?_
        refine S_getI (dc_X4_sum 6 rfl) ho fl_X4_31_3_4 (fun _ _ => rfl) (fun x6 e6 => ?_)
        refine S_icmp_ge 24 (dc_X4_sum 7 rfl) rfl (fun c9 => ?_) (fun c9 => ?_)
        · refine Sx.cut [false, false, true, false] ?_
          exact hK1 x2_4
        · refine S_iload_n (dc_X4_sum 8 rfl) rfl ?_
          refine S_aload_n (dc_X4_sum 9 rfl) rfl ?_
          refine S_iload_n (dc_X4_sum 10 rfl) rfl ?_
          refine S_iald (dc_X4_sum 11 rfl) (fun x15 e15 => ?_)
          refine S_iadd (dc_X4_sum 12 rfl) ?_
          refine Sx.nameI (fun x17 n17 => ?_)
          refine S_istore_n (L' := [some (.ref a0), some (.ref a1), some (.int x17), some (.int x3_4)]) (dc_X4_sum 13 rfl) rfl ?_
          refine S_iincN 1 (L' := fun x18 => [some (.ref a0), some (.ref a1), some (.int x17), some (.int x18)]) (dc_X4_sum 14 rfl) rfl rfl (fun _ => rfl) (fun x18 n18 => ?_)
          refine S_goto 4 (dc_X4_sum 15 rfl) rfl ?_
          exact ih1 x17 x18
    exact ih1 F 0 0
abbrev cX4_isClosed : ByteArray := prog_7_method_4_code
def yX4_isClosed : MethodName := ⟨"PegBands$Calls", "isClosed", "()Z"⟩
def tb_X4_isClosed : List (Nat × Instr × Nat) := [(0, .aload_n 0, 1), (1, .aload_n 0, 1), (2, .getfield 9, 3), (5, .invokevirtual 34, 3), (8, .ifCond .ne 18, 3), (11, .aload_n 0, 1), (12, .aload_n 0, 1), (13, .getfield 15, 3), (16, .invokevirtual 34, 3), (19, .ifCond .ne 7, 3), (22, .iconst 1, 1), (23, .goto 4, 3), (26, .iconst 0, 1), (27, .ireturn, 1)]
theorem tk_X4_isClosed : ∀ q ∈ tb_X4_isClosed, decode cX4_isClosed q.1 = .ok q.2 := by decide +kernel
theorem dc_X4_isClosed (k : Nat) {pc n : Nat} {i : Instr} (h : tb_X4_isClosed[k]? = some (pc, i, n)) : decode cX4_isClosed pc = .ok (i, n) := tk_X4_isClosed (pc, i, n) (List.mem_of_getElem? h)
abbrev mX4_isClosed : e_M := (yX4_isClosed, cX4_isClosed, 1, some (.boolean), [])
theorem ok_X4_isClosed : e_mok mX4_isClosed 0 := ⟨q1047, q113, by decide +kernel, fun sig h => by cases h; rfl⟩
def f_X4_isClosed (F : Nat) (h : e_H) (a0 : Nat) : Option Int32 :=
  Option.bind (e_fA h a0 3 0) (fun x2 =>
  Option.bind (f_X4_sum F h a0 x2) (fun x5 =>
  if x5 = 0 then
    Option.bind (e_fA h a0 3 1) (fun x13 =>
    Option.bind (f_X4_sum F h a0 x13) (fun x16 =>
    if x16 = 0 then
      some 1
    else
      some 0))
  else
    some 0))
set_option maxHeartbeats 4000000 in
set_option maxRecDepth 100000 in
theorem ct_X4_isClosed {l : Launch} {D : e_D} {B : Heap} {F : Nat} {d : Nat} {h : e_H} {a0 : Nat} {v : Int32} (hd : 2 ≤ d) (e : f_X4_isClosed F h a0 = some v) : e_Run l D B d mX4_isClosed [.ref a0] h (.ok (some (.int v)), h) := by
  refine e_start [some (.ref a0)] (by decide) rfl rfl rfl (Nat.le_of_ble_eq_true rfl) (fun K hl0 hD0 hB0 hM hd0 hr => ?_)
  subst hl0 hD0 hB0 hd0
  have ho : (k_M K).1.cls = "PegBands$Calls" := by rw [hM]; rfl
  have hT : (k_M K).2.2.2.1 = some (.boolean) := by rw [hM]
  refine (show Sx K cX4_isClosed 0 [some (.ref a0)] [] h (f_X4_isClosed F h a0) (fun w => w = v) from ?_) _ e rfl
  clear e
  unfold f_X4_isClosed
  refine S_aload_n (dc_X4_isClosed 0 rfl) rfl ?_
  refine S_aload_n (dc_X4_isClosed 1 rfl) rfl ?_
  refine S_getA (dc_X4_isClosed 2 rfl) ho fl_X4_9_3_0 (fun _ _ => rfl) (fun x2 e2 => ?_)
  refine S_roI (d := k_d K - 1) (e_callV (b := a0) (As := [.ref x2]) (rest := []) ok_X4_sum rfl (Nat.le_of_ble_eq_true rfl) (dc_X4_isClosed 3 rfl) ho q1048 q1049 (show e_cl[3]? = some (RX4, TX4, 5) from rfl) (e_sel.of q1050) (e_fA_of e2).1 rfl (Nat.le_of_ble_eq_true rfl)) (by omega) (fun _ e => ct_X4_sum (by omega) e) (fun x5 e5 => ?_)
  refine S_if_ne 26 (dc_X4_isClosed 4 rfl) rfl (fun c8 => ?_) (fun c8 => ?_)
  · refine S_iconst_ 0 (dc_X4_isClosed 12 rfl) rfl ?_
    exact S_iret (dc_X4_isClosed 13 rfl) hT rfl (fun q => by cases q; exact hr)
  · refine S_aload_n (dc_X4_isClosed 5 rfl) rfl ?_
    refine S_aload_n (dc_X4_isClosed 6 rfl) rfl ?_
    refine S_getA (dc_X4_isClosed 7 rfl) ho fl_X4_15_3_1 (fun _ _ => rfl) (fun x13 e13 => ?_)
    refine S_roI (d := k_d K - 1) (e_callV (b := a0) (As := [.ref x13]) (rest := []) ok_X4_sum rfl (Nat.le_of_ble_eq_true rfl) (dc_X4_isClosed 8 rfl) ho q1048 q1049 (show e_cl[3]? = some (RX4, TX4, 5) from rfl) (e_sel.of q1050) (e_fA_of e2).1 rfl (Nat.le_of_ble_eq_true rfl)) (by omega) (fun _ e => ct_X4_sum (by omega) e) (fun x16 e16 => ?_)
    refine S_if_ne 26 (dc_X4_isClosed 9 rfl) rfl (fun c19 => ?_) (fun c19 => ?_)
    · refine S_iconst_ 0 (dc_X4_isClosed 12 rfl) rfl ?_
      exact S_iret (dc_X4_isClosed 13 rfl) hT rfl (fun q => by cases q; exact hr)
    · refine S_iconst_ 1 (dc_X4_isClosed 10 rfl) rfl ?_
      refine S_goto 27 (dc_X4_isClosed 11 rfl) rfl ?_
      exact S_iret (dc_X4_isClosed 13 rfl) hT rfl (fun q => by cases q; exact hr)
abbrev cX8_init : ByteArray := prog_3_method_1_code
def yX8_init : MethodName := ⟨"PegBands$Band", "<init>", "()V"⟩
def tb_X8_init : List (Nat × Instr × Nat) := [(0, .aload_n 0, 1), (1, .invokespecial 3, 3), (4, .aload_n 0, 1), (5, .bipush 9, 2), (7, .newarray .int, 2), (9, .putfield 9, 3), (12, .aload_n 0, 1), (13, .bipush 9, 2), (15, .newarray .int, 2), (17, .putfield 15, 3), (20, .return_, 1)]
theorem tk_X8_init : ∀ q ∈ tb_X8_init, decode cX8_init q.1 = .ok q.2 := by decide +kernel
theorem dc_X8_init (k : Nat) {pc n : Nat} {i : Instr} (h : tb_X8_init[k]? = some (pc, i, n)) : decode cX8_init pc = .ok (i, n) := tk_X8_init (pc, i, n) (List.mem_of_getElem? h)
abbrev mX8_init : e_M := (yX8_init, cX8_init, 1, none, [])
theorem ok_X8_init : e_mok mX8_init 0 := ⟨q390, q117, by decide +kernel, fun sig h => by cases h; rfl⟩
theorem fl_X8_9_6_0 : e_FL "PegBands$Band" 9 6 0 := ⟨_, rfl, by decide, Or.inl q392⟩
theorem fl_X8_15_6_1 : e_FL "PegBands$Band" 15 6 1 := ⟨_, rfl, by decide, Or.inl q395⟩
def f_X8_init (h : e_H) (a0 : Nat) : Option e_H :=
  Option.bind (e_nat 9) (fun l7 => e_mkb h (.inr (0, l7)) l7 (fun x7 h7 =>
  Option.bind (e_gR h7 a0 6 0 (some x7)) (fun h9 =>
  Option.bind (e_nat 9) (fun l15 => e_mkb h9 (.inr (0, l15)) l15 (fun x15 h15 =>
  Option.bind (e_gR h15 a0 6 1 (some x15)) (fun h17 =>
  some h17))))))
set_option maxHeartbeats 4000000 in
set_option maxRecDepth 100000 in
theorem ct_X8_init {l : Launch} {D : e_D} {B : Heap} {d : Nat} {h : e_H} {a0 : Nat} {h1 : e_H} (hd : 1 ≤ d) (e : f_X8_init h a0 = some h1) : e_Run l D B d mX8_init [.ref a0] h (.ok none, h1) := by
  refine e_start [some (.ref a0)] (by decide) rfl rfl rfl (Nat.le_of_ble_eq_true rfl) (fun K hl0 hD0 hB0 hM hd0 hr => ?_)
  subst hl0 hD0 hB0 hd0
  have ho : (k_M K).1.cls = "PegBands$Band" := by rw [hM]; rfl
  have hT : (k_M K).2.2.2.1 = none := by rw [hM]
  refine (show Sx K cX8_init 0 [some (.ref a0)] [] h (f_X8_init h a0) (fun w => w = h1) from ?_) _ e rfl
  clear e
  unfold f_X8_init
  refine S_aload_n (dc_X8_init 0 rfl) rfl ?_
  refine S_objInit (dc_X8_init 1 rfl) ho q391 (by omega) (Nat.le_of_ble_eq_true rfl) ?_
  refine S_aload_n (dc_X8_init 2 rfl) rfl ?_
  refine S_bipush_ 9 (dc_X8_init 3 rfl) rfl ?_
  refine S_newaB (t := 0) (dc_X8_init 4 rfl) (by decide) rfl q311 (fun l7 x7 h7 v7 u7 w7 => ?_)
  refine S_putR (v := (some x7)) (dc_X8_init 5 rfl) ho fl_X8_9_6_0 (fun _ _ => rfl) (Or.inr ⟨rfl, by rw [hM]; rfl, rfl⟩) rfl (fun h9 e9 => ?_)
  refine S_aload_n (dc_X8_init 6 rfl) rfl ?_
  refine S_bipush_ 9 (dc_X8_init 7 rfl) rfl ?_
  refine S_newaB (t := 0) (dc_X8_init 8 rfl) (by decide) rfl q311 (fun l15 x15 h15 v15 u15 w15 => ?_)
  refine S_putR (v := (some x15)) (dc_X8_init 9 rfl) ho fl_X8_15_6_1 (fun _ _ => rfl) (Or.inr ⟨rfl, by rw [hM]; rfl, rfl⟩) rfl (fun h17 e17 => ?_)
  exact S_vret (dc_X8_init 10 rfl) hT (fun q => by cases q; exact hr)
abbrev cX8_add : ByteArray := prog_3_method_4_code
def yX8_add : MethodName := ⟨"PegBands$Band", "add", "(II)V"⟩
def tb_X8_add : List (Nat × Instr × Nat) := [(0, .aload_n 0, 1), (1, .getfield 9, 3), (4, .aload_n 0, 1), (5, .getfield 28, 3), (8, .iload_n 1, 1), (9, .iastore, 1), (10, .aload_n 0, 1), (11, .getfield 15, 3), (14, .aload_n 0, 1), (15, .getfield 28, 3), (18, .iload_n 2, 1), (19, .iastore, 1), (20, .aload_n 0, 1), (21, .dup, 1), (22, .getfield 28, 3), (25, .iconst 1, 1), (26, .iadd, 1), (27, .putfield 28, 3), (30, .return_, 1)]
theorem tk_X8_add : ∀ q ∈ tb_X8_add, decode cX8_add q.1 = .ok q.2 := by decide +kernel
theorem dc_X8_add (k : Nat) {pc n : Nat} {i : Instr} (h : tb_X8_add[k]? = some (pc, i, n)) : decode cX8_add pc = .ok (i, n) := tk_X8_add (pc, i, n) (List.mem_of_getElem? h)
abbrev mX8_add : e_M := (yX8_add, cX8_add, 3, none, [])
theorem ok_X8_add : e_mok mX8_add 2 := ⟨q772, q117, by decide +kernel, fun sig h => by cases h; rfl⟩
theorem fl_X8_28_6_2 : e_FL "PegBands$Band" 28 6 2 := ⟨_, rfl, by decide, Or.inl q399⟩
def f_X8_add (h : e_H) (a0 : Nat) (a1 : Int32) (a2 : Int32) : Option e_H :=
  Option.bind (e_fA h a0 6 0) (fun x1 =>
  Option.bind (e_fI h a0 6 2) (fun x5 =>
  Option.bind (e_wI h x1 0 x5 a1) (fun h9 =>
  Option.bind (e_fA h9 a0 6 1) (fun x11 =>
  Option.bind (e_fI h9 a0 6 2) (fun x15 =>
  Option.bind (e_wI h9 x11 0 x15 a2) (fun h19 =>
  Option.bind (e_fI h19 a0 6 2) (fun x22 =>
  Option.bind (e_gI h19 a0 6 2 (x22 + 1)) (fun h27 =>
  some h27))))))))
set_option maxHeartbeats 4000000 in
set_option maxRecDepth 100000 in
theorem ct_X8_add {l : Launch} {D : e_D} {B : Heap} {d : Nat} {h : e_H} {a0 : Nat} {a1 : Int32} {a2 : Int32} {h1 : e_H} (hd : 1 ≤ d) (e : f_X8_add h a0 a1 a2 = some h1) : e_Run l D B d mX8_add [.ref a0, .int a1, .int a2] h (.ok none, h1) := by
  refine e_start [some (.ref a0), some (.int a1), some (.int a2)] (by decide) rfl rfl rfl (Nat.le_of_ble_eq_true rfl) (fun K hl0 hD0 hB0 hM hd0 hr => ?_)
  subst hl0 hD0 hB0 hd0
  have ho : (k_M K).1.cls = "PegBands$Band" := by rw [hM]; rfl
  have hT : (k_M K).2.2.2.1 = none := by rw [hM]
  refine (show Sx K cX8_add 0 [some (.ref a0), some (.int a1), some (.int a2)] [] h (f_X8_add h a0 a1 a2) (fun w => w = h1) from ?_) _ e rfl
  clear e
  unfold f_X8_add
  refine S_aload_n (dc_X8_add 0 rfl) rfl ?_
  refine S_getA (dc_X8_add 1 rfl) ho fl_X8_9_6_0 (fun _ _ => rfl) (fun x1 e1 => ?_)
  refine S_aload_n (dc_X8_add 2 rfl) rfl ?_
  refine S_getI (dc_X8_add 3 rfl) ho fl_X8_28_6_2 (fun _ _ => rfl) (fun x5 e5 => ?_)
  refine S_iload_n (dc_X8_add 4 rfl) rfl ?_
  refine S_iast (dc_X8_add 5 rfl) (fun h9 e9 => ?_)
  refine S_aload_n (dc_X8_add 6 rfl) rfl ?_
  refine S_getA (dc_X8_add 7 rfl) ho fl_X8_15_6_1 (fun _ _ => rfl) (fun x11 e11 => ?_)
  refine S_aload_n (dc_X8_add 8 rfl) rfl ?_
  refine S_getI (dc_X8_add 9 rfl) ho fl_X8_28_6_2 (fun _ _ => rfl) (fun x15 e15 => ?_)
  refine S_iload_n (dc_X8_add 10 rfl) rfl ?_
  refine S_iast (dc_X8_add 11 rfl) (fun h19 e19 => ?_)
  refine S_aload_n (dc_X8_add 12 rfl) rfl ?_
  refine S_dup (dc_X8_add 13 rfl) rfl ?_
  refine S_getI (dc_X8_add 14 rfl) ho fl_X8_28_6_2 (fun _ _ => rfl) (fun x22 e22 => ?_)
  refine S_iconst_ 1 (dc_X8_add 15 rfl) rfl ?_
  refine S_iadd (dc_X8_add 16 rfl) ?_
  refine S_putI (dc_X8_add 17 rfl) ho fl_X8_28_6_2 (fun _ _ => rfl) (Or.inl rfl) rfl rfl (fun h27 e27 => ?_)
  exact S_vret (dc_X8_add 18 rfl) hT (fun q => by cases q; exact hr)
abbrev cX4_band : ByteArray := prog_7_method_5_code
def yX4_band : MethodName := ⟨"PegBands$Calls", "band", "(I)LPegBands$Band;"⟩
def tb_X4_band : List (Nat × Instr × Nat) := [(0, .new 38, 3), (3, .dup, 1), (4, .invokespecial 40, 3), (7, .astore_n 2, 1), (8, .aload_n 0, 1), (9, .getfield 24, 3), (12, .istore_n 3, 1), (13, .aload_n 0, 1), (14, .getfield 28, 3), (17, .istore 4, 2), (19, .iconst 0, 1), (20, .istore 5, 2), (22, .iload 5, 2), (24, .aload_n 0, 1), (25, .getfield 31, 3), (28, .if_icmp .ge 76, 3), (31, .aload_n 2, 1), (32, .iload_n 3, 1), (33, .iload 4, 2), (35, .invokevirtual 41, 3), (38, .iload_n 3, 1), (39, .aload_n 0, 1), (40, .getfield 9, 3), (43, .iload 5, 2), (45, .iaload, 1), (46, .iload 5, 2), (48, .iload_n 1, 1), (49, .if_icmp .ne 14, 3), (52, .aload_n 0, 1), (53, .aload_n 0, 1), (54, .getfield 9, 3), (57, .invokevirtual 34, 3), (60, .goto 4, 3), (63, .iconst 0, 1), (64, .isub, 1), (65, .iadd, 1), (66, .istore_n 3, 1), (67, .iload 4, 2), (69, .aload_n 0, 1), (70, .getfield 15, 3), (73, .iload 5, 2), (75, .iaload, 1), (76, .iload 5, 2), (78, .iload_n 1, 1), (79, .if_icmp .ne 14, 3), (82, .aload_n 0, 1), (83, .aload_n 0, 1), (84, .getfield 15, 3), (87, .invokevirtual 34, 3), (90, .goto 4, 3), (93, .iconst 0, 1), (94, .isub, 1), (95, .iadd, 1), (96, .istore 4, 2), (98, .iinc 5 1, 3), (101, .goto (-79), 3), (104, .aload_n 2, 1), (105, .areturn, 1)]
theorem tk_X4_band : ∀ q ∈ tb_X4_band, decode cX4_band q.1 = .ok q.2 := by decide +kernel
theorem dc_X4_band (k : Nat) {pc n : Nat} {i : Instr} (h : tb_X4_band[k]? = some (pc, i, n)) : decode cX4_band pc = .ok (i, n) := tk_X4_band (pc, i, n) (List.mem_of_getElem? h)
abbrev mX4_band : e_M := (yX4_band, cX4_band, 6, some (.object "PegBands$Band"), [])
theorem ok_X4_band : e_mok mX4_band 1 := ⟨q1059, q113, by decide +kernel, fun sig h => by cases h; rfl⟩
def lp_X4_band_22 (F : Nat) (a0 : Nat) (a1 : Int32) (x0 : Nat) : Nat → Int32 → Int32 → Int32 → e_H → Option (e_H)
  | 0, _, _, _, _ => none
  | n + 1, x3_22, x4_22, x5_22, h_22 =>
    Option.bind (e_fI h_22 a0 3 4) (fun x25 =>
    if x25 ≤ x5_22 then
      some h_22
    else
      Option.bind (e_is h_22 x0 6) (fun _ =>
      Option.bind (f_X8_add h_22 x0 x3_22 x4_22) (fun h35 =>
      Option.bind (e_fA h35 a0 3 0) (fun x40 =>
      Option.bind (e_aI h35 x40 0 x5_22) (fun x45 =>
      Option.bind (
          if x5_22 = a1 then
            Option.bind (e_fA h35 a0 3 0) (fun x54 =>
            Option.bind (f_X4_sum F h35 a0 x54) (fun x57 =>
            some x57))
          else
            some 0
        : Option (Int32)) (fun s64_2 =>
      Option.bind (some (x3_22 + (x45 - s64_2))) (fun x66 =>
      Option.bind (e_fA h35 a0 3 1) (fun x70 =>
      Option.bind (e_aI h35 x70 0 x5_22) (fun x75 =>
      Option.bind (
          if x5_22 = a1 then
            Option.bind (e_fA h35 a0 3 1) (fun x84 =>
            Option.bind (f_X4_sum F h35 a0 x84) (fun x87 =>
            some x87))
          else
            some 0
        : Option (Int32)) (fun s94_3 =>
      Option.bind (some (x4_22 + (x75 - s94_3))) (fun x96 =>
      Option.bind (some (x5_22 + 1)) (fun x98 =>
      lp_X4_band_22 F a0 a1 x0 n x66 x96 x98 h35))))))))))))
def f_X4_band (F : Nat) (h : e_H) (a0 : Nat) (a1 : Int32) : Option (Nat × e_H) :=
  e_mkb h (.inl 6) 4 (fun x0 h0 =>
  Option.bind (f_X8_init h0 x0) (fun h4 =>
  Option.bind (e_fI h4 a0 3 2) (fun x9 =>
  Option.bind (e_fI h4 a0 3 3) (fun x14 =>
  Option.bind (
      lp_X4_band_22 F a0 a1 x0 F x9 x14 0 h4
    : Option (e_H)) (fun h104_1 =>
  some (x0, h104_1))))))
set_option maxHeartbeats 4000000 in
set_option maxRecDepth 100000 in
theorem ct_X4_band {l : Launch} {D : e_D} {B : Heap} {F : Nat} {d : Nat} {h : e_H} {a0 : Nat} {a1 : Int32} {v : Nat} {h1 : e_H} (hd : 2 ≤ d) (e : f_X4_band F h a0 a1 = some (v, h1)) : e_Run l D B d mX4_band [.ref a0, .int a1] h (.ok (some (.ref v)), h1) := by
  refine e_start [some (.ref a0), some (.int a1), none, none, none, none] (by decide) rfl rfl rfl (Nat.le_of_ble_eq_true rfl) (fun K hl0 hD0 hB0 hM hd0 hr => ?_)
  subst hl0 hD0 hB0 hd0
  have ho : (k_M K).1.cls = "PegBands$Calls" := by rw [hM]; rfl
  have hT : (k_M K).2.2.2.1 = some (.object "PegBands$Band") := by rw [hM]
  refine (show Sx K cX4_band 0 [some (.ref a0), some (.int a1), none, none, none, none] [] h (f_X4_band F h a0 a1) (fun w => w = (v, h1)) from ?_) _ e rfl
  clear e
  unfold f_X4_band
  refine S_newB (dc_X4_band 0 rfl) ho (show e_cl[6]? = some (RX8, TX8, 4) from rfl) (by decide) q1060 q387 q117 (fun x0 h0 u0 w0 => ?_)
  refine S_dup (dc_X4_band 1 rfl) rfl ?_
  refine S_rwV (d := k_d K - 1) (e_callI (b := x0) (As := []) (rest := [.ref x0]) ok_X8_init rfl rfl rfl (Nat.le_of_ble_eq_true rfl) (dc_X4_band 2 rfl) ho q1061 q389 rfl (Nat.le_of_ble_eq_true rfl)) (by omega) (fun _ e => ct_X8_init (by omega) e) (fun h4 e4 => ?_)
  refine S_astore_n (L' := [some (.ref a0), some (.int a1), some (.ref x0), none, none, none]) (dc_X4_band 3 rfl) rfl ?_
  refine S_aload_n (dc_X4_band 4 rfl) rfl ?_
  refine S_getI (dc_X4_band 5 rfl) ho fl_X4_24_3_2 (fun _ _ => rfl) (fun x9 e9 => ?_)
  refine S_istore_n (L' := [some (.ref a0), some (.int a1), some (.ref x0), some (.int x9), none, none]) (dc_X4_band 6 rfl) rfl ?_
  refine S_aload_n (dc_X4_band 7 rfl) rfl ?_
  refine S_getI (dc_X4_band 8 rfl) ho fl_X4_28_3_3 (fun _ _ => rfl) (fun x14 e14 => ?_)
  refine S_istore (L' := [some (.ref a0), some (.int a1), some (.ref x0), some (.int x9), some (.int x14), none]) (dc_X4_band 9 rfl) rfl ?_
  refine S_iconst_ 0 (dc_X4_band 10 rfl) rfl ?_
  refine S_istore (L' := [some (.ref a0), some (.int a1), some (.ref x0), some (.int x9), some (.int x14), some (.int 0)]) (dc_X4_band 11 rfl) rfl ?_
  refine Sx.regK1 (pc2 := 104) (L2 := fun (h104_1 : e_H) => [none, none, some (.ref x0), none, none, none]) (st2 := fun (h104_1 : e_H) => []) (h2 := fun (h104_1 : e_H) => h104_1) ?_ (fun Q1 hK1 => ?_)
  · intro h104_1
    show Sx K cX4_band 104 [none, none, some (.ref x0), none, none, none] [] h104_1 _ _
    refine S_aload_n (dc_X4_band 56 rfl) rfl ?_
    exact S_aret (dc_X4_band 57 rfl) hT (Or.inl ⟨_, rfl⟩) (fun q => by cases q; exact hr)
  · have hK1 : ∀ (h104_1 : e_H), Sx K cX4_band 104 [none, none, some (.ref x0), none, none, none] [] h104_1 (some h104_1) Q1 := hK1
    have ih1 : ∀ (n : Nat) (x3_22 : Int32) (x4_22 : Int32) (x5_22 : Int32) (h_22 : e_H), Sx K cX4_band 22 [some (.ref a0), some (.int a1), some (.ref x0), some (.int x3_22), some (.int x4_22), some (.int x5_22)] [] h_22 (lp_X4_band_22 F a0 a1 x0 n x3_22 x4_22 x5_22 h_22) Q1 := by
      intro n
      induction n with
      | zero => intro x3_22 x4_22 x5_22 h_22; exact Sx.none
      | succ n ih1 =>
        intro x3_22 x4_22 x5_22 h_22
        rw [lp_X4_band_22.eq_2]
        refine S_iload (dc_X4_band 12 rfl) rfl ?_
        refine S_aload_n (dc_X4_band 13 rfl) rfl ?_
        refine S_getI (dc_X4_band 14 rfl) ho fl_X4_31_3_4 (fun _ _ => rfl) (fun x25 e25 => ?_)
        refine S_icmp_ge 104 (dc_X4_band 15 rfl) rfl (fun c28 => ?_) (fun c28 => ?_)
        · refine Sx.cut [false, false, true, false, false, false] ?_
          exact hK1 h_22
        · refine S_aload_n (dc_X4_band 16 rfl) rfl ?_
          refine S_iload_n (dc_X4_band 17 rfl) rfl ?_
          refine S_iload (dc_X4_band 18 rfl) rfl ?_
          refine Sx.ask (fun _ i35 => ?_)
          refine S_rwV (d := k_d K - 1) (e_callV (b := x0) (As := [.int x3_22, .int x4_22]) (rest := []) ok_X8_add rfl (Nat.le_of_ble_eq_true rfl) (dc_X4_band 19 rfl) ho q1062 q770 (show e_cl[6]? = some (RX8, TX8, 4) from rfl) (e_sel.of q771) (e_is_of i35) rfl (Nat.le_of_ble_eq_true rfl)) (by omega) (fun _ e => ct_X8_add (by omega) e) (fun h35 e35 => ?_)
          refine S_iload_n (dc_X4_band 20 rfl) rfl ?_
          refine S_aload_n (dc_X4_band 21 rfl) rfl ?_
          refine S_getA (dc_X4_band 22 rfl) ho fl_X4_9_3_0 (fun _ _ => rfl) (fun x40 e40 => ?_)
          refine S_iload (dc_X4_band 23 rfl) rfl ?_
          refine S_iald (dc_X4_band 24 rfl) (fun x45 e45 => ?_)
          refine S_iload (dc_X4_band 25 rfl) rfl ?_
          refine S_iload_n (dc_X4_band 26 rfl) rfl ?_
          refine Sx.regK1 (pc2 := 64) (L2 := fun (s64_2 : Int32) => [some (.ref a0), some (.int a1), some (.ref x0), none, some (.int x4_22), some (.int x5_22)]) (st2 := fun (s64_2 : Int32) => [.int s64_2, .int x45, .int x3_22]) (h2 := fun (s64_2 : Int32) => h35) ?_ (fun Q2 hK2 => ?_)
          · intro s64_2
            show Sx K cX4_band 64 [some (.ref a0), some (.int a1), some (.ref x0), none, some (.int x4_22), some (.int x5_22)] [.int s64_2, .int x45, .int x3_22] h35 _ _
            refine S_isub (dc_X4_band 34 rfl) ?_
            refine S_iadd (dc_X4_band 35 rfl) ?_
            refine Sx.nameI (fun x66 n66 => ?_)
            refine S_istore_n (L' := [some (.ref a0), some (.int a1), some (.ref x0), some (.int x66), some (.int x4_22), some (.int x5_22)]) (dc_X4_band 36 rfl) rfl ?_
            refine S_iload (dc_X4_band 37 rfl) rfl ?_
            refine S_aload_n (dc_X4_band 38 rfl) rfl ?_
            refine S_getA (dc_X4_band 39 rfl) ho fl_X4_15_3_1 (fun _ _ => rfl) (fun x70 e70 => ?_)
            refine S_iload (dc_X4_band 40 rfl) rfl ?_
            refine S_iald (dc_X4_band 41 rfl) (fun x75 e75 => ?_)
            refine S_iload (dc_X4_band 42 rfl) rfl ?_
            refine S_iload_n (dc_X4_band 43 rfl) rfl ?_
            refine Sx.regK1 (pc2 := 94) (L2 := fun (s94_3 : Int32) => [some (.ref a0), some (.int a1), some (.ref x0), some (.int x66), none, some (.int x5_22)]) (st2 := fun (s94_3 : Int32) => [.int s94_3, .int x75, .int x4_22]) (h2 := fun (s94_3 : Int32) => h35) ?_ (fun Q3 hK3 => ?_)
            · intro s94_3
              show Sx K cX4_band 94 [some (.ref a0), some (.int a1), some (.ref x0), some (.int x66), none, some (.int x5_22)] [.int s94_3, .int x75, .int x4_22] h35 _ _
              refine S_isub (dc_X4_band 51 rfl) ?_
              refine S_iadd (dc_X4_band 52 rfl) ?_
              refine Sx.nameI (fun x96 n96 => ?_)
              refine S_istore (L' := [some (.ref a0), some (.int a1), some (.ref x0), some (.int x66), some (.int x96), some (.int x5_22)]) (dc_X4_band 53 rfl) rfl ?_
              refine S_iincN 1 (L' := fun x98 => [some (.ref a0), some (.int a1), some (.ref x0), some (.int x66), some (.int x96), some (.int x98)]) (dc_X4_band 54 rfl) rfl rfl (fun _ => rfl) (fun x98 n98 => ?_)
              refine S_goto 22 (dc_X4_band 55 rfl) rfl ?_
              exact ih1 x66 x96 x98 h35
            · have hK3 : ∀ (s94_3 : Int32), Sx K cX4_band 94 [some (.ref a0), some (.int a1), some (.ref x0), some (.int x66), none, some (.int x5_22)] [.int s94_3, .int x75, .int x4_22] h35 (some s94_3) Q3 := hK3
              refine S_icmp_ne 93 (dc_X4_band 44 rfl) rfl (fun c79 => ?_) (fun c79 => ?_)
              · refine S_iconst_ 0 (dc_X4_band 50 rfl) rfl ?_
                refine Sx.cut [true, true, true, true, false, true] ?_
                exact hK3 0
              · refine S_aload_n (dc_X4_band 45 rfl) rfl ?_
                refine S_aload_n (dc_X4_band 46 rfl) rfl ?_
                refine S_getA (dc_X4_band 47 rfl) ho fl_X4_15_3_1 (fun _ _ => rfl) (fun x84 e84 => ?_)
                refine S_roI (d := k_d K - 1) (e_callV (b := a0) (As := [.ref x84]) (rest := [.int x75, .int x4_22]) ok_X4_sum rfl (Nat.le_of_ble_eq_true rfl) (dc_X4_band 48 rfl) ho q1048 q1049 (show e_cl[3]? = some (RX4, TX4, 5) from rfl) (e_sel.of q1050) (e_fA_of e40).1 rfl (Nat.le_of_ble_eq_true rfl)) (by omega) (fun _ e => ct_X4_sum (by omega) e) (fun x87 e87 => ?_)
                refine S_goto 94 (dc_X4_band 49 rfl) rfl ?_
                refine Sx.cut [true, true, true, true, false, true] ?_
                exact hK3 x87
          · have hK2 : ∀ (s64_2 : Int32), Sx K cX4_band 64 [some (.ref a0), some (.int a1), some (.ref x0), none, some (.int x4_22), some (.int x5_22)] [.int s64_2, .int x45, .int x3_22] h35 (some s64_2) Q2 := hK2
            refine S_icmp_ne 63 (dc_X4_band 27 rfl) rfl (fun c49 => ?_) (fun c49 => ?_)
            · refine S_iconst_ 0 (dc_X4_band 33 rfl) rfl ?_
              refine Sx.cut [true, true, true, false, true, true] ?_
              exact hK2 0
            · refine S_aload_n (dc_X4_band 28 rfl) rfl ?_
              refine S_aload_n (dc_X4_band 29 rfl) rfl ?_
              refine S_getA (dc_X4_band 30 rfl) ho fl_X4_9_3_0 (fun _ _ => rfl) (fun x54 e54 => ?_)
              refine S_roI (d := k_d K - 1) (e_callV (b := a0) (As := [.ref x54]) (rest := [.int x45, .int x3_22]) ok_X4_sum rfl (Nat.le_of_ble_eq_true rfl) (dc_X4_band 31 rfl) ho q1048 q1049 (show e_cl[3]? = some (RX4, TX4, 5) from rfl) (e_sel.of q1050) (e_fA_of e40).1 rfl (Nat.le_of_ble_eq_true rfl)) (by omega) (fun _ e => ct_X4_sum (by omega) e) (fun x57 e57 => ?_)
              refine S_goto 64 (dc_X4_band 32 rfl) rfl ?_
              refine Sx.cut [true, true, true, false, true, true] ?_
              exact hK2 x57
    exact ih1 F x9 x14 0 h4
abbrev cX14_init : ByteArray := prog_13_method_1_code
def yX14_init : MethodName := ⟨"PegBands$Like", "<init>", "(ZJ)V"⟩
def tb_X14_init : List (Nat × Instr × Nat) := [(0, .aload_n 0, 1), (1, .invokespecial 1, 3), (4, .aload_n 0, 1), (5, .iload_n 1, 1), (6, .putfield 7, 3), (9, .aload_n 0, 1), (10, .lload_n 2, 1), (11, .putfield 13, 3), (14, .return_, 1)]
theorem tk_X14_init : ∀ q ∈ tb_X14_init, decode cX14_init q.1 = .ok q.2 := by decide +kernel
theorem dc_X14_init (k : Nat) {pc n : Nat} {i : Instr} (h : tb_X14_init[k]? = some (pc, i, n)) : decode cX14_init pc = .ok (i, n) := tk_X14_init (pc, i, n) (List.mem_of_getElem? h)
abbrev mX14_init : e_M := (yX14_init, cX14_init, 4, none, [])
theorem ok_X14_init : e_mok mX14_init 2 := ⟨q1302, q131, by decide +kernel, fun sig h => by cases h; rfl⟩
theorem fl_X14_7_11_0 : e_FL "PegBands$Like" 7 11 0 := ⟨_, rfl, by decide, Or.inl q1304⟩
theorem fl_X14_13_11_1 : e_FL "PegBands$Like" 13 11 1 := ⟨_, rfl, by decide, Or.inl q1305⟩
def f_X14_init (h : e_H) (a0 : Nat) (a1 : Int32) (a2 : Int64) : Option e_H :=
  Option.bind (f_X11_init h a0) (fun h1 =>
  Option.bind (e_zq a1) (fun _ =>
  Option.bind (e_gI h1 a0 11 0 a1) (fun h6 =>
  Option.bind (e_gJ h6 a0 11 1 a2) (fun h11 =>
  some h11))))
set_option maxHeartbeats 4000000 in
set_option maxRecDepth 100000 in
theorem ct_X14_init {l : Launch} {D : e_D} {B : Heap} {d : Nat} {h : e_H} {a0 : Nat} {a1 : Int32} {a2 : Int64} {h1 : e_H} (hd : 2 ≤ d) (e : f_X14_init h a0 a1 a2 = some h1) : e_Run l D B d mX14_init [.ref a0, .int a1, .long a2] h (.ok none, h1) := by
  refine e_start [some (.ref a0), some (.int a1), some (.long a2), none] (by decide) rfl rfl rfl (Nat.le_of_ble_eq_true rfl) (fun K hl0 hD0 hB0 hM hd0 hr => ?_)
  subst hl0 hD0 hB0 hd0
  have ho : (k_M K).1.cls = "PegBands$Like" := by rw [hM]; rfl
  have hT : (k_M K).2.2.2.1 = none := by rw [hM]
  refine (show Sx K cX14_init 0 [some (.ref a0), some (.int a1), some (.long a2), none] [] h (f_X14_init h a0 a1 a2) (fun w => w = h1) from ?_) _ e rfl
  clear e
  unfold f_X14_init
  refine S_aload_n (dc_X14_init 0 rfl) rfl ?_
  refine S_rwV (d := k_d K - 1) (e_callIN (b := a0) (As := []) (rest := []) ok_X11_init rfl rfl rfl (Nat.le_of_ble_eq_true rfl) (dc_X14_init 1 rfl) ho q1303 q1266 rfl (Nat.le_of_ble_eq_true rfl)) (by omega) (fun _ e => ct_X11_init (by omega) e) (fun h1 e1 => ?_)
  refine S_aload_n (dc_X14_init 2 rfl) rfl ?_
  refine S_iload_n (dc_X14_init 3 rfl) rfl ?_
  refine Sx.ask (fun _ z6 => ?_)
  refine S_putI (dc_X14_init 4 rfl) ho fl_X14_7_11_0 (fun _ _ => rfl) (Or.inr ⟨rfl, by rw [hM]; rfl, rfl⟩) (e_narZ (e_zq_of z6)).1 (e_narZ (e_zq_of z6)).2 (fun h6 e6 => ?_)
  refine S_aload_n (dc_X14_init 5 rfl) rfl ?_
  refine S_lload_n (dc_X14_init 6 rfl) rfl ?_
  refine S_putJ (dc_X14_init 7 rfl) ho fl_X14_13_11_1 (fun _ _ => rfl) (Or.inr ⟨rfl, by rw [hM]; rfl, rfl⟩) rfl rfl (fun h11 e11 => ?_)
  exact S_vret (dc_X14_init 8 rfl) hT (fun q => by cases q; exact hr)
abbrev cX1_turnedX : ByteArray := prog_1_method_26_code
def yX1_turnedX : MethodName := ⟨"PegBands", "turnedX", "(III)I"⟩
def tb_X1_turnedX : List (Nat × Instr × Nat) := [(0, .iload_n 0, 1), (1, .iconst 4, 1), (2, .irem, 1), (3, .ifCond .ne 7, 3), (6, .iload_n 1, 1), (7, .goto 28, 3), (10, .iload_n 0, 1), (11, .iconst 4, 1), (12, .irem, 1), (13, .iconst 1, 1), (14, .if_icmp .ne 8, 3), (17, .iload_n 2, 1), (18, .ineg, 1), (19, .goto 16, 3), (22, .iload_n 0, 1), (23, .iconst 4, 1), (24, .irem, 1), (25, .iconst 2, 1), (26, .if_icmp .ne 8, 3), (29, .iload_n 1, 1), (30, .ineg, 1), (31, .goto 4, 3), (34, .iload_n 2, 1), (35, .istore_n 3, 1), (36, .iload_n 0, 1), (37, .iconst 4, 1), (38, .if_icmp .ge 7, 3), (41, .iload_n 3, 1), (42, .goto 5, 3), (45, .iload_n 3, 1), (46, .ineg, 1), (47, .ireturn, 1)]
theorem tk_X1_turnedX : ∀ q ∈ tb_X1_turnedX, decode cX1_turnedX q.1 = .ok q.2 := by decide +kernel
theorem dc_X1_turnedX (k : Nat) {pc n : Nat} {i : Instr} (h : tb_X1_turnedX[k]? = some (pc, i, n)) : decode cX1_turnedX pc = .ok (i, n) := tk_X1_turnedX (pc, i, n) (List.mem_of_getElem? h)
abbrev mX1_turnedX : e_M := (yX1_turnedX, cX1_turnedX, 4, some (.int), [])
theorem ok_X1_turnedX : e_mok mX1_turnedX 3 := ⟨q910, q108, by decide +kernel, fun sig h => by cases h; rfl⟩
def f_X1_turnedX (a0 : Int32) (a1 : Int32) (a2 : Int32) : Option Int32 :=
  Option.bind (
      if (a0 - a0 / 4 * 4) = 0 then
        some a1
      else
        if (a0 - a0 / 4 * 4) = 1 then
          some (-a2)
        else
          if (a0 - a0 / 4 * 4) = 2 then
            some (-a1)
          else
            some a2
    : Option (Int32)) (fun s35_1 =>
  if 4 ≤ a0 then
    some (-s35_1)
  else
    some s35_1)
set_option maxHeartbeats 4000000 in
set_option maxRecDepth 100000 in
theorem ct_X1_turnedX {l : Launch} {D : e_D} {B : Heap} {d : Nat} {h : e_H} {a0 : Int32} {a1 : Int32} {a2 : Int32} {v : Int32} (hd : 1 ≤ d) (e : f_X1_turnedX a0 a1 a2 = some v) : e_Run l D B d mX1_turnedX [.int a0, .int a1, .int a2] h (.ok (some (.int v)), h) := by
  refine e_start [some (.int a0), some (.int a1), some (.int a2), none] (by decide) rfl rfl rfl (Nat.le_of_ble_eq_true rfl) (fun K hl0 hD0 hB0 hM hd0 hr => ?_)
  subst hl0 hD0 hB0 hd0
  have ho : (k_M K).1.cls = "PegBands" := by rw [hM]; rfl
  have hT : (k_M K).2.2.2.1 = some (.int) := by rw [hM]
  refine (show Sx K cX1_turnedX 0 [some (.int a0), some (.int a1), some (.int a2), none] [] h (f_X1_turnedX a0 a1 a2) (fun w => w = v) from ?_) _ e rfl
  clear e
  unfold f_X1_turnedX
  refine S_iload_n (dc_X1_turnedX 0 rfl) rfl ?_
  refine S_iconst_ 4 (dc_X1_turnedX 1 rfl) rfl ?_
  refine S_irem (dc_X1_turnedX 2 rfl) (by decide) ?_
  refine Sx.regK1 (pc2 := 35) (L2 := fun (s35_1 : Int32) => [some (.int a0), none, none, none]) (st2 := fun (s35_1 : Int32) => [.int s35_1]) (h2 := fun (s35_1 : Int32) => h) ?_ (fun Q1 hK1 => ?_)
  · intro s35_1
    show Sx K cX1_turnedX 35 [some (.int a0), none, none, none] [.int s35_1] h _ _
    refine S_istore_n (L' := [some (.int a0), none, none, some (.int s35_1)]) (dc_X1_turnedX 23 rfl) rfl ?_
    refine S_iload_n (dc_X1_turnedX 24 rfl) rfl ?_
    refine S_iconst_ 4 (dc_X1_turnedX 25 rfl) rfl ?_
    refine S_icmp_ge 45 (dc_X1_turnedX 26 rfl) rfl (fun c38 => ?_) (fun c38 => ?_)
    · refine S_iload_n (dc_X1_turnedX 29 rfl) rfl ?_
      refine S_ineg (dc_X1_turnedX 30 rfl) ?_
      exact S_iret (dc_X1_turnedX 31 rfl) hT rfl (fun q => by cases q; exact hr)
    · refine S_iload_n (dc_X1_turnedX 27 rfl) rfl ?_
      refine S_goto 47 (dc_X1_turnedX 28 rfl) rfl ?_
      exact S_iret (dc_X1_turnedX 31 rfl) hT rfl (fun q => by cases q; exact hr)
  · have hK1 : ∀ (s35_1 : Int32), Sx K cX1_turnedX 35 [some (.int a0), none, none, none] [.int s35_1] h (some s35_1) Q1 := hK1
    refine S_if_ne 10 (dc_X1_turnedX 3 rfl) rfl (fun c3 => ?_) (fun c3 => ?_)
    · refine S_iload_n (dc_X1_turnedX 6 rfl) rfl ?_
      refine S_iconst_ 4 (dc_X1_turnedX 7 rfl) rfl ?_
      refine S_irem (dc_X1_turnedX 8 rfl) (by decide) ?_
      refine S_iconst_ 1 (dc_X1_turnedX 9 rfl) rfl ?_
      refine S_icmp_ne 22 (dc_X1_turnedX 10 rfl) rfl (fun c14 => ?_) (fun c14 => ?_)
      · refine S_iload_n (dc_X1_turnedX 14 rfl) rfl ?_
        refine S_iconst_ 4 (dc_X1_turnedX 15 rfl) rfl ?_
        refine S_irem (dc_X1_turnedX 16 rfl) (by decide) ?_
        refine S_iconst_ 2 (dc_X1_turnedX 17 rfl) rfl ?_
        refine S_icmp_ne 34 (dc_X1_turnedX 18 rfl) rfl (fun c26 => ?_) (fun c26 => ?_)
        · refine S_iload_n (dc_X1_turnedX 22 rfl) rfl ?_
          refine Sx.cut [true, false, false, true] ?_
          exact hK1 a2
        · refine S_iload_n (dc_X1_turnedX 19 rfl) rfl ?_
          refine S_ineg (dc_X1_turnedX 20 rfl) ?_
          refine S_goto 35 (dc_X1_turnedX 21 rfl) rfl ?_
          refine Sx.cut [true, false, false, true] ?_
          exact hK1 (-a1)
      · refine S_iload_n (dc_X1_turnedX 11 rfl) rfl ?_
        refine S_ineg (dc_X1_turnedX 12 rfl) ?_
        refine S_goto 35 (dc_X1_turnedX 13 rfl) rfl ?_
        refine Sx.cut [true, false, false, true] ?_
        exact hK1 (-a2)
    · refine S_iload_n (dc_X1_turnedX 4 rfl) rfl ?_
      refine S_goto 35 (dc_X1_turnedX 5 rfl) rfl ?_
      refine Sx.cut [true, false, false, true] ?_
      exact hK1 a1
abbrev cX1_turnedY : ByteArray := prog_1_method_27_code
def yX1_turnedY : MethodName := ⟨"PegBands", "turnedY", "(III)I"⟩
def tb_X1_turnedY : List (Nat × Instr × Nat) := [(0, .iload_n 0, 1), (1, .iconst 4, 1), (2, .irem, 1), (3, .ifCond .ne 7, 3), (6, .iload_n 2, 1), (7, .goto 28, 3), (10, .iload_n 0, 1), (11, .iconst 4, 1), (12, .irem, 1), (13, .iconst 1, 1), (14, .if_icmp .ne 7, 3), (17, .iload_n 1, 1), (18, .goto 17, 3), (21, .iload_n 0, 1), (22, .iconst 4, 1), (23, .irem, 1), (24, .iconst 2, 1), (25, .if_icmp .ne 8, 3), (28, .iload_n 2, 1), (29, .ineg, 1), (30, .goto 5, 3), (33, .iload_n 1, 1), (34, .ineg, 1), (35, .ireturn, 1)]
theorem tk_X1_turnedY : ∀ q ∈ tb_X1_turnedY, decode cX1_turnedY q.1 = .ok q.2 := by decide +kernel
theorem dc_X1_turnedY (k : Nat) {pc n : Nat} {i : Instr} (h : tb_X1_turnedY[k]? = some (pc, i, n)) : decode cX1_turnedY pc = .ok (i, n) := tk_X1_turnedY (pc, i, n) (List.mem_of_getElem? h)
abbrev mX1_turnedY : e_M := (yX1_turnedY, cX1_turnedY, 3, some (.int), [])
theorem ok_X1_turnedY : e_mok mX1_turnedY 3 := ⟨q913, q108, by decide +kernel, fun sig h => by cases h; rfl⟩
def f_X1_turnedY (a0 : Int32) (a1 : Int32) (a2 : Int32) : Option Int32 :=
  if (a0 - a0 / 4 * 4) = 0 then
    some a2
  else
    if (a0 - a0 / 4 * 4) = 1 then
      some a1
    else
      if (a0 - a0 / 4 * 4) = 2 then
        some (-a2)
      else
        some (-a1)
set_option maxHeartbeats 4000000 in
set_option maxRecDepth 100000 in
theorem ct_X1_turnedY {l : Launch} {D : e_D} {B : Heap} {d : Nat} {h : e_H} {a0 : Int32} {a1 : Int32} {a2 : Int32} {v : Int32} (hd : 1 ≤ d) (e : f_X1_turnedY a0 a1 a2 = some v) : e_Run l D B d mX1_turnedY [.int a0, .int a1, .int a2] h (.ok (some (.int v)), h) := by
  refine e_start [some (.int a0), some (.int a1), some (.int a2)] (by decide) rfl rfl rfl (Nat.le_of_ble_eq_true rfl) (fun K hl0 hD0 hB0 hM hd0 hr => ?_)
  subst hl0 hD0 hB0 hd0
  have ho : (k_M K).1.cls = "PegBands" := by rw [hM]; rfl
  have hT : (k_M K).2.2.2.1 = some (.int) := by rw [hM]
  refine (show Sx K cX1_turnedY 0 [some (.int a0), some (.int a1), some (.int a2)] [] h (f_X1_turnedY a0 a1 a2) (fun w => w = v) from ?_) _ e rfl
  clear e
  unfold f_X1_turnedY
  refine S_iload_n (dc_X1_turnedY 0 rfl) rfl ?_
  refine S_iconst_ 4 (dc_X1_turnedY 1 rfl) rfl ?_
  refine S_irem (dc_X1_turnedY 2 rfl) (by decide) ?_
  refine S_if_ne 10 (dc_X1_turnedY 3 rfl) rfl (fun c3 => ?_) (fun c3 => ?_)
  · refine S_iload_n (dc_X1_turnedY 6 rfl) rfl ?_
    refine S_iconst_ 4 (dc_X1_turnedY 7 rfl) rfl ?_
    refine S_irem (dc_X1_turnedY 8 rfl) (by decide) ?_
    refine S_iconst_ 1 (dc_X1_turnedY 9 rfl) rfl ?_
    refine S_icmp_ne 21 (dc_X1_turnedY 10 rfl) rfl (fun c14 => ?_) (fun c14 => ?_)
    · refine S_iload_n (dc_X1_turnedY 13 rfl) rfl ?_
      refine S_iconst_ 4 (dc_X1_turnedY 14 rfl) rfl ?_
      refine S_irem (dc_X1_turnedY 15 rfl) (by decide) ?_
      refine S_iconst_ 2 (dc_X1_turnedY 16 rfl) rfl ?_
      refine S_icmp_ne 33 (dc_X1_turnedY 17 rfl) rfl (fun c25 => ?_) (fun c25 => ?_)
      · refine S_iload_n (dc_X1_turnedY 21 rfl) rfl ?_
        refine S_ineg (dc_X1_turnedY 22 rfl) ?_
        exact S_iret (dc_X1_turnedY 23 rfl) hT rfl (fun q => by cases q; exact hr)
      · refine S_iload_n (dc_X1_turnedY 18 rfl) rfl ?_
        refine S_ineg (dc_X1_turnedY 19 rfl) ?_
        refine S_goto 35 (dc_X1_turnedY 20 rfl) rfl ?_
        exact S_iret (dc_X1_turnedY 23 rfl) hT rfl (fun q => by cases q; exact hr)
    · refine S_iload_n (dc_X1_turnedY 11 rfl) rfl ?_
      refine S_goto 35 (dc_X1_turnedY 12 rfl) rfl ?_
      exact S_iret (dc_X1_turnedY 23 rfl) hT rfl (fun q => by cases q; exact hr)
  · refine S_iload_n (dc_X1_turnedY 4 rfl) rfl ?_
    refine S_goto 35 (dc_X1_turnedY 5 rfl) rfl ?_
    exact S_iret (dc_X1_turnedY 23 rfl) hT rfl (fun q => by cases q; exact hr)
abbrev cX1_isLess : ByteArray := prog_1_method_28_code
def yX1_isLess : MethodName := ⟨"PegBands", "isLess", "([I[II)Z"⟩
def tb_X1_isLess : List (Nat × Instr × Nat) := [(0, .iconst 0, 1), (1, .istore_n 3, 1), (2, .iload_n 3, 1), (3, .iload_n 2, 1), (4, .if_icmp .ge 33, 3), (7, .aload_n 0, 1), (8, .iload_n 3, 1), (9, .iaload, 1), (10, .aload_n 1, 1), (11, .iload_n 3, 1), (12, .iaload, 1), (13, .if_icmp .eq 18, 3), (16, .aload_n 0, 1), (17, .iload_n 3, 1), (18, .iaload, 1), (19, .aload_n 1, 1), (20, .iload_n 3, 1), (21, .iaload, 1), (22, .if_icmp .ge 7, 3), (25, .iconst 1, 1), (26, .goto 4, 3), (29, .iconst 0, 1), (30, .ireturn, 1), (31, .iinc 3 1, 3), (34, .goto (-32), 3), (37, .iconst 0, 1), (38, .ireturn, 1)]
theorem tk_X1_isLess : ∀ q ∈ tb_X1_isLess, decode cX1_isLess q.1 = .ok q.2 := by decide +kernel
theorem dc_X1_isLess (k : Nat) {pc n : Nat} {i : Instr} (h : tb_X1_isLess[k]? = some (pc, i, n)) : decode cX1_isLess pc = .ok (i, n) := tk_X1_isLess (pc, i, n) (List.mem_of_getElem? h)
abbrev mX1_isLess : e_M := (yX1_isLess, cX1_isLess, 4, some (.boolean), [])
theorem ok_X1_isLess : e_mok mX1_isLess 3 := ⟨q916, q108, by decide +kernel, fun sig h => by cases h; rfl⟩
def lp_X1_isLess_2 (F : Nat) (h : e_H) (a0 : Nat) (a1 : Nat) (a2 : Int32) : Nat → Int32 → Option (Except Int32 Unit)
  | 0, _ => none
  | n + 1, x3_2 =>
    if a2 ≤ x3_2 then
      some (.ok ())
    else
      Option.bind (e_aI h a0 0 x3_2) (fun x9 =>
      Option.bind (e_aI h a1 0 x3_2) (fun x12 =>
      if x9 = x12 then
        Option.bind (some (x3_2 + 1)) (fun x31 =>
        lp_X1_isLess_2 F h a0 a1 a2 n x31)
      else
        Option.bind (e_aI h a0 0 x3_2) (fun x18 =>
        Option.bind (e_aI h a1 0 x3_2) (fun x21 =>
        if x21 ≤ x18 then
          some (.error 0)
        else
          some (.error 1)))))
def f_X1_isLess (F : Nat) (h : e_H) (a0 : Nat) (a1 : Nat) (a2 : Int32) : Option Int32 :=
  e_bE (
      lp_X1_isLess_2 F h a0 a1 a2 F 0
    : Option (Except Int32 Unit)) (fun _ =>
  some 0)
set_option maxHeartbeats 4000000 in
set_option maxRecDepth 100000 in
theorem ct_X1_isLess {l : Launch} {D : e_D} {B : Heap} {F : Nat} {d : Nat} {h : e_H} {a0 : Nat} {a1 : Nat} {a2 : Int32} {v : Int32} (hd : 1 ≤ d) (e : f_X1_isLess F h a0 a1 a2 = some v) : e_Run l D B d mX1_isLess [.ref a0, .ref a1, .int a2] h (.ok (some (.int v)), h) := by
  refine e_start [some (.ref a0), some (.ref a1), some (.int a2), none] (by decide) rfl rfl rfl (Nat.le_of_ble_eq_true rfl) (fun K hl0 hD0 hB0 hM hd0 hr => ?_)
  subst hl0 hD0 hB0 hd0
  have ho : (k_M K).1.cls = "PegBands" := by rw [hM]; rfl
  have hT : (k_M K).2.2.2.1 = some (.boolean) := by rw [hM]
  refine (show Sx K cX1_isLess 0 [some (.ref a0), some (.ref a1), some (.int a2), none] [] h (f_X1_isLess F h a0 a1 a2) (fun w => w = v) from ?_) _ e rfl
  clear e
  unfold f_X1_isLess
  refine S_iconst_ 0 (dc_X1_isLess 0 rfl) rfl ?_
  refine S_istore_n (L' := [some (.ref a0), some (.ref a1), some (.int a2), some (.int 0)]) (dc_X1_isLess 1 rfl) rfl ?_
  refine Sx.regKE0 (pc2 := 37) (L2 := [none, none, none, none]) (st2 := []) (h2 := h) ?_ (fun Q1 hK1 hE1 => ?_)
  · skip
    refine S_iconst_ 0 (dc_X1_isLess 25 rfl) rfl ?_
    exact S_iret (dc_X1_isLess 26 rfl) hT rfl (fun q => by cases q; exact hr)
  · have hK1 : Sx K cX1_isLess 37 [none, none, none, none] [] h (some (.ok ())) Q1 := hK1
    have ih1 : ∀ (n : Nat) (x3_2 : Int32), Sx K cX1_isLess 2 [some (.ref a0), some (.ref a1), some (.int a2), some (.int x3_2)] [] h (lp_X1_isLess_2 F h a0 a1 a2 n x3_2) Q1 := by
      intro n
      induction n with
      | zero => intro x3_2; exact Sx.none
      | succ n ih1 =>
        intro x3_2
        rw [lp_X1_isLess_2.eq_2]
        refine S_iload_n (dc_X1_isLess 2 rfl) rfl ?_
        refine S_iload_n (dc_X1_isLess 3 rfl) rfl ?_
        refine S_icmp_ge 37 (dc_X1_isLess 4 rfl) rfl (fun c4 => ?_) (fun c4 => ?_)
        · refine Sx.cut [false, false, false, false] ?_
          exact hK1
        · refine S_aload_n (dc_X1_isLess 5 rfl) rfl ?_
          refine S_iload_n (dc_X1_isLess 6 rfl) rfl ?_
          refine S_iald (dc_X1_isLess 7 rfl) (fun x9 e9 => ?_)
          refine S_aload_n (dc_X1_isLess 8 rfl) rfl ?_
          refine S_iload_n (dc_X1_isLess 9 rfl) rfl ?_
          refine S_iald (dc_X1_isLess 10 rfl) (fun x12 e12 => ?_)
          refine S_icmp_eq 31 (dc_X1_isLess 11 rfl) rfl (fun c13 => ?_) (fun c13 => ?_)
          · refine S_iincN 1 (L' := fun x31 => [some (.ref a0), some (.ref a1), some (.int a2), some (.int x31)]) (dc_X1_isLess 23 rfl) rfl rfl (fun _ => rfl) (fun x31 n31 => ?_)
            refine S_goto 2 (dc_X1_isLess 24 rfl) rfl ?_
            exact ih1 x31
          · refine S_aload_n (dc_X1_isLess 12 rfl) rfl ?_
            refine S_iload_n (dc_X1_isLess 13 rfl) rfl ?_
            refine S_iald (dc_X1_isLess 14 rfl) (fun x18 e18 => ?_)
            refine S_aload_n (dc_X1_isLess 15 rfl) rfl ?_
            refine S_iload_n (dc_X1_isLess 16 rfl) rfl ?_
            refine S_iald (dc_X1_isLess 17 rfl) (fun x21 e21 => ?_)
            refine S_icmp_ge 29 (dc_X1_isLess 18 rfl) rfl (fun c22 => ?_) (fun c22 => ?_)
            · refine S_iconst_ 0 (dc_X1_isLess 21 rfl) rfl ?_
              refine Sx.err hE1 ?_
              exact S_iret (dc_X1_isLess 22 rfl) hT rfl (fun q => by cases q; exact hr)
            · refine S_iconst_ 1 (dc_X1_isLess 19 rfl) rfl ?_
              refine S_goto 30 (dc_X1_isLess 20 rfl) rfl ?_
              refine Sx.err hE1 ?_
              exact S_iret (dc_X1_isLess 22 rfl) hT rfl (fun q => by cases q; exact hr)
    exact ih1 F 0
abbrev cX1_settle : ByteArray := prog_1_method_29_code
def yX1_settle : MethodName := ⟨"PegBands", "settle", "(LPegBands$Band;I)V"⟩
def tb_X1_settle : List (Nat × Instr × Nat) := [(0, .aload_n 1, 1), (1, .getfield 251, 3), (4, .istore_n 3, 1), (5, .iconst 1, 1), (6, .istore 4, 2), (8, .iconst 0, 1), (9, .istore 5, 2), (11, .iload 5, 2), (13, .iload_n 2, 1), (14, .ifCond .ne 7, 3), (17, .iconst 1, 1), (18, .goto 14, 3), (21, .iload_n 2, 1), (22, .iconst 1, 1), (23, .if_icmp .ne 7, 3), (26, .iconst 4, 1), (27, .goto 5, 3), (30, .bipush 8, 2), (32, .if_icmp .ge 255, 3), (35, .ldc_w 285, 3), (38, .istore 6, 2), (40, .ldc_w 285, 3), (43, .istore 7, 2), (45, .iconst 0, 1), (46, .istore 8, 2), (48, .iload 8, 2), (50, .iload_n 3, 1), (51, .if_icmp .ge 61, 3), (54, .iload 6, 2), (56, .iload 5, 2), (58, .aload_n 1, 1), (59, .getfield 273, 3), (62, .iload 8, 2), (64, .iaload, 1), (65, .aload_n 1, 1), (66, .getfield 270, 3), (69, .iload 8, 2), (71, .iaload, 1), (72, .invokestatic 286, 3), (75, .invokestatic 181, 3), (78, .istore 6, 2), (80, .iload 7, 2), (82, .iload 5, 2), (84, .aload_n 1, 1), (85, .getfield 273, 3), (88, .iload 8, 2), (90, .iaload, 1), (91, .aload_n 1, 1), (92, .getfield 270, 3), (95, .iload 8, 2), (97, .iaload, 1), (98, .invokestatic 290, 3), (101, .invokestatic 181, 3), (104, .istore 7, 2), (106, .iinc 8 1, 3), (109, .goto (-61), 3), (112, .iconst 0, 1), (113, .istore 8, 2), (115, .iload 8, 2), (117, .iconst 2, 1), (118, .iload_n 3, 1), (119, .imul, 1), (120, .if_icmp .ge 161, 3), (123, .iconst 0, 1), (124, .istore 9, 2), (126, .iload 9, 2), (128, .iload_n 3, 1), (129, .if_icmp .ge 102, 3), (132, .iload 8, 2), (134, .iload_n 3, 1), (135, .if_icmp .ge 13, 3), (138, .iload 8, 2), (140, .iload 9, 2), (142, .iadd, 1), (143, .iload_n 3, 1), (144, .irem, 1), (145, .goto 14, 3), (148, .iconst 2, 1), (149, .iload_n 3, 1), (150, .imul, 1), (151, .iload 8, 2), (153, .iadd, 1), (154, .iload 9, 2), (156, .isub, 1), (157, .iload_n 3, 1), (158, .irem, 1), (159, .istore 10, 2), (161, .aload_n 0, 1), (162, .getfield 92, 3), (165, .iconst 2, 1), (166, .iload 9, 2), (168, .imul, 1), (169, .iload 5, 2), (171, .aload_n 1, 1), (172, .getfield 273, 3), (175, .iload 10, 2), (177, .iaload, 1), (178, .aload_n 1, 1), (179, .getfield 270, 3), (182, .iload 10, 2), (184, .iaload, 1), (185, .invokestatic 286, 3), (188, .iload 6, 2), (190, .isub, 1), (191, .iastore, 1), (192, .aload_n 0, 1), (193, .getfield 92, 3), (196, .iconst 2, 1), (197, .iload 9, 2), (199, .imul, 1), (200, .iconst 1, 1), (201, .iadd, 1), (202, .iload 5, 2), (204, .aload_n 1, 1), (205, .getfield 273, 3), (208, .iload 10, 2), (210, .iaload, 1), (211, .aload_n 1, 1), (212, .getfield 270, 3), (215, .iload 10, 2), (217, .iaload, 1), (218, .invokestatic 290, 3), (221, .iload 7, 2), (223, .isub, 1), (224, .iastore, 1), (225, .iinc 9 1, 3), (228, .goto (-102), 3), (231, .iload 4, 2), (233, .ifCond .ne 23, 3), (236, .aload_n 0, 1), (237, .getfield 92, 3), (240, .aload_n 0, 1), (241, .getfield 96, 3), (244, .iconst 2, 1), (245, .iload_n 3, 1), (246, .imul, 1), (247, .invokestatic 293, 3), (250, .ifCond .ne 6, 3), (253, .goto 22, 3), (256, .iconst 0, 1), (257, .istore 4, 2), (259, .aload_n 0, 1), (260, .getfield 92, 3), (263, .iconst 0, 1), (264, .aload_n 0, 1), (265, .getfield 96, 3), (268, .iconst 0, 1), (269, .iconst 2, 1), (270, .iload_n 3, 1), (271, .imul, 1), (272, .invokestatic 297, 3), (275, .iinc 8 1, 3), (278, .goto (-163), 3), (281, .iinc 5 1, 3), (284, .goto (-273), 3), (287, .return_, 1)]
theorem tk_X1_settle : ∀ q ∈ tb_X1_settle, decode cX1_settle q.1 = .ok q.2 := by decide +kernel
theorem dc_X1_settle (k : Nat) {pc n : Nat} {i : Instr} (h : tb_X1_settle[k]? = some (pc, i, n)) : decode cX1_settle pc = .ok (i, n) := tk_X1_settle (pc, i, n) (List.mem_of_getElem? h)
abbrev mX1_settle : e_M := (yX1_settle, cX1_settle, 11, none, [])
theorem ok_X1_settle : e_mok mX1_settle 2 := ⟨q906, q108, by decide +kernel, fun sig h => by cases h; rfl⟩
theorem fl_X1_251_6_2 : e_FL "PegBands" 251 6 2 := ⟨_, rfl, by decide, Or.inr (Or.inr (Or.inl ⟨_, q402⟩))⟩
theorem fl_X1_273_6_0 : e_FL "PegBands" 273 6 0 := ⟨_, rfl, by decide, Or.inr (Or.inr (Or.inl ⟨_, q394⟩))⟩
theorem fl_X1_270_6_1 : e_FL "PegBands" 270 6 1 := ⟨_, rfl, by decide, Or.inr (Or.inr (Or.inl ⟨_, q397⟩))⟩
theorem fl_X1_92_0_13 : e_FL "PegBands" 92 0 13 := ⟨_, rfl, by decide, Or.inl q471⟩
theorem fl_X1_96_0_14 : e_FL "PegBands" 96 0 14 := ⟨_, rfl, by decide, Or.inl q472⟩
def lp_X1_settle_48 (F : Nat) (h_11 : e_H) (a1 : Nat) (x1 : Int32) (x5_11 : Int32) : Nat → Int32 → Int32 → Int32 → Option ((Int32 × Int32))
  | 0, _, _, _ => none
  | n + 1, x6_48, x7_48, x8_48 =>
    if x1 ≤ x8_48 then
      some (x6_48, x7_48)
    else
      Option.bind (e_fA h_11 a1 6 0) (fun x59 =>
      Option.bind (e_aI h_11 x59 0 x8_48) (fun x64 =>
      Option.bind (e_fA h_11 a1 6 1) (fun x66 =>
      Option.bind (e_aI h_11 x66 0 x8_48) (fun x71 =>
      Option.bind (f_X1_turnedX x5_11 x64 x71) (fun x72 =>
      Option.bind (some (if x72 < x6_48 then x72 else x6_48)) (fun x78 =>
      Option.bind (e_fA h_11 a1 6 0) (fun x85 =>
      Option.bind (e_aI h_11 x85 0 x8_48) (fun x90 =>
      Option.bind (e_fA h_11 a1 6 1) (fun x92 =>
      Option.bind (e_aI h_11 x92 0 x8_48) (fun x97 =>
      Option.bind (f_X1_turnedY x5_11 x90 x97) (fun x98 =>
      Option.bind (some (if x98 < x7_48 then x98 else x7_48)) (fun x104 =>
      Option.bind (some (x8_48 + 1)) (fun x106 =>
      lp_X1_settle_48 F h_11 a1 x1 x5_11 n x78 x104 x106)))))))))))))
def lp_X1_settle_126 (F : Nat) (a0 : Nat) (a1 : Nat) (x1 : Int32) (x5_11 : Int32) (x6_112_3 : Int32) (x7_112_3 : Int32) (x8_115 : Int32) : Nat → Int32 → e_H → Option (e_H)
  | 0, _, _ => none
  | n + 1, x9_126, h_126 =>
    if x1 ≤ x9_126 then
      some h_126
    else
      Option.bind (
          if x1 ≤ x8_115 then
            if x1 = 0 then none else
            some ((((2 * x1) + x8_115) - x9_126) - (((2 * x1) + x8_115) - x9_126) / x1 * x1)
          else
            if x1 = 0 then none else
            some ((x8_115 + x9_126) - (x8_115 + x9_126) / x1 * x1)
        : Option (Int32)) (fun s159_6 =>
      Option.bind (e_fA h_126 a0 0 13) (fun x162 =>
      Option.bind (e_fA h_126 a1 6 0) (fun x172 =>
      Option.bind (e_aI h_126 x172 0 s159_6) (fun x177 =>
      Option.bind (e_fA h_126 a1 6 1) (fun x179 =>
      Option.bind (e_aI h_126 x179 0 s159_6) (fun x184 =>
      Option.bind (f_X1_turnedX x5_11 x177 x184) (fun x185 =>
      Option.bind (e_wI h_126 x162 0 (2 * x9_126) (x185 - x6_112_3)) (fun h191 =>
      Option.bind (e_fA h191 a0 0 13) (fun x193 =>
      Option.bind (e_fA h191 a1 6 0) (fun x205 =>
      Option.bind (e_aI h191 x205 0 s159_6) (fun x210 =>
      Option.bind (e_fA h191 a1 6 1) (fun x212 =>
      Option.bind (e_aI h191 x212 0 s159_6) (fun x217 =>
      Option.bind (f_X1_turnedY x5_11 x210 x217) (fun x218 =>
      Option.bind (e_wI h191 x193 0 ((2 * x9_126) + 1) (x218 - x7_112_3)) (fun h224 =>
      Option.bind (some (x9_126 + 1)) (fun x225 =>
      lp_X1_settle_126 F a0 a1 x1 x5_11 x6_112_3 x7_112_3 x8_115 n x225 h224))))))))))))))))
def lp_X1_settle_115 (F : Nat) (a0 : Nat) (a1 : Nat) (x1 : Int32) (x5_11 : Int32) (x6_112_3 : Int32) (x7_112_3 : Int32) : Nat → Int32 → Int32 → e_H → Option ((Int32 × e_H))
  | 0, _, _, _ => none
  | n + 1, x4_115, x8_115, h_115 =>
    if (2 * x1) ≤ x8_115 then
      some (x4_115, h_115)
    else
      Option.bind (
          lp_X1_settle_126 F a0 a1 x1 x5_11 x6_112_3 x7_112_3 x8_115 F 0 h_115
        : Option (e_H)) (fun h231_5 =>
      Option.bind (
          e_bE (
              if x4_115 = 0 then
                Option.bind (e_fA h231_5 a0 0 13) (fun x237 =>
                Option.bind (e_fA h231_5 a0 0 14) (fun x241 =>
                Option.bind (f_X1_isLess F h231_5 x237 x241 (2 * x1)) (fun x247 =>
                if x247 = 0 then
                  some (.error (x4_115, h231_5))
                else
                  some (.ok ()))))
              else
                some (.ok ())
            : Option (Except (Int32 × e_H) Unit)) (fun _ =>
          Option.bind (e_fA h231_5 a0 0 13) (fun x260 =>
          Option.bind (e_fA h231_5 a0 0 14) (fun x265 =>
          Option.bind (e_cpI h231_5 x260 0 x265 0 (2 * x1)) (fun h272 =>
          some (0, h272)))))
        : Option ((Int32 × e_H))) (e_u2 (fun x4_275_7 h275_7 =>
      Option.bind (some (x8_115 + 1)) (fun x275 =>
      lp_X1_settle_115 F a0 a1 x1 x5_11 x6_112_3 x7_112_3 n x4_275_7 x275 h275_7))))
def lp_X1_settle_11 (F : Nat) (a0 : Nat) (a1 : Nat) (a2 : Int32) (x1 : Int32) : Nat → Int32 → Int32 → e_H → Option (e_H)
  | 0, _, _, _ => none
  | n + 1, x4_11, x5_11, h_11 =>
    Option.bind (
        if a2 = 0 then
          some 1
        else
          if a2 = 1 then
            some 4
          else
            some 8
      : Option (Int32)) (fun s32_2 =>
    if s32_2 ≤ x5_11 then
      some h_11
    else
      Option.bind (
          lp_X1_settle_48 F h_11 a1 x1 x5_11 F 1000000000 1000000000 0
        : Option ((Int32 × Int32))) (e_u2 (fun x6_112_3 x7_112_3 =>
      Option.bind (
          lp_X1_settle_115 F a0 a1 x1 x5_11 x6_112_3 x7_112_3 F x4_11 0 h_11
        : Option ((Int32 × e_H))) (e_u2 (fun x4_281_4 h281_4 =>
      Option.bind (some (x5_11 + 1)) (fun x281 =>
      lp_X1_settle_11 F a0 a1 a2 x1 n x4_281_4 x281 h281_4))))))
def f_X1_settle (F : Nat) (h : e_H) (a0 : Nat) (a1 : Nat) (a2 : Int32) : Option e_H :=
  Option.bind (e_fI h a1 6 2) (fun x1 =>
  Option.bind (
      lp_X1_settle_11 F a0 a1 a2 x1 F 1 0 h
    : Option (e_H)) (fun h287_1 =>
  some h287_1))
set_option maxHeartbeats 4000000 in
set_option maxRecDepth 100000 in
theorem ct_X1_settle {l : Launch} {D : e_D} {B : Heap} {F : Nat} {d : Nat} {h : e_H} {a0 : Nat} {a1 : Nat} {a2 : Int32} {h1 : e_H} (hd : 2 ≤ d) (e : f_X1_settle F h a0 a1 a2 = some h1) : e_Run l D B d mX1_settle [.ref a0, .ref a1, .int a2] h (.ok none, h1) := by
  refine e_start [some (.ref a0), some (.ref a1), some (.int a2), none, none, none, none, none, none, none, none] (by decide) rfl rfl rfl (Nat.le_of_ble_eq_true rfl) (fun K hl0 hD0 hB0 hM hd0 hr => ?_)
  subst hl0 hD0 hB0 hd0
  have ho : (k_M K).1.cls = "PegBands" := by rw [hM]; rfl
  have hT : (k_M K).2.2.2.1 = none := by rw [hM]
  refine (show Sx K cX1_settle 0 [some (.ref a0), some (.ref a1), some (.int a2), none, none, none, none, none, none, none, none] [] h (f_X1_settle F h a0 a1 a2) (fun w => w = h1) from ?_) _ e rfl
  clear e
  unfold f_X1_settle
  refine S_aload_n (dc_X1_settle 0 rfl) rfl ?_
  refine S_getI (dc_X1_settle 1 rfl) ho fl_X1_251_6_2 (fun _ _ => rfl) (fun x1 e1 => ?_)
  refine S_istore_n (L' := [some (.ref a0), some (.ref a1), some (.int a2), some (.int x1), none, none, none, none, none, none, none]) (dc_X1_settle 2 rfl) rfl ?_
  refine S_iconst_ 1 (dc_X1_settle 3 rfl) rfl ?_
  refine S_istore (L' := [some (.ref a0), some (.ref a1), some (.int a2), some (.int x1), some (.int 1), none, none, none, none, none, none]) (dc_X1_settle 4 rfl) rfl ?_
  refine S_iconst_ 0 (dc_X1_settle 5 rfl) rfl ?_
  refine S_istore (L' := [some (.ref a0), some (.ref a1), some (.int a2), some (.int x1), some (.int 1), some (.int 0), none, none, none, none, none]) (dc_X1_settle 6 rfl) rfl ?_
  refine Sx.regK1 (pc2 := 287) (L2 := fun (h287_1 : e_H) => [none, none, none, none, none, none, none, none, none, none, none]) (st2 := fun (h287_1 : e_H) => []) (h2 := fun (h287_1 : e_H) => h287_1) ?_ (fun Q1 hK1 => ?_)
  · intro h287_1
    show Sx K cX1_settle 287 [none, none, none, none, none, none, none, none, none, none, none] [] h287_1 _ _
    exact S_vret (dc_X1_settle 155 rfl) hT (fun q => by cases q; exact hr)
  · have hK1 : ∀ (h287_1 : e_H), Sx K cX1_settle 287 [none, none, none, none, none, none, none, none, none, none, none] [] h287_1 (some h287_1) Q1 := hK1
    have ih1 : ∀ (n : Nat) (x4_11 : Int32) (x5_11 : Int32) (h_11 : e_H), Sx K cX1_settle 11 [some (.ref a0), some (.ref a1), some (.int a2), some (.int x1), some (.int x4_11), some (.int x5_11), none, none, none, none, none] [] h_11 (lp_X1_settle_11 F a0 a1 a2 x1 n x4_11 x5_11 h_11) Q1 := by
      intro n
      induction n with
      | zero => intro x4_11 x5_11 h_11; exact Sx.none
      | succ n ih1 =>
        intro x4_11 x5_11 h_11
        rw [lp_X1_settle_11.eq_2]
        refine S_iload (dc_X1_settle 7 rfl) rfl ?_
        refine S_iload_n (dc_X1_settle 8 rfl) rfl ?_
        refine Sx.regK1 (pc2 := 32) (L2 := fun (s32_2 : Int32) => [some (.ref a0), some (.ref a1), some (.int a2), some (.int x1), some (.int x4_11), some (.int x5_11), none, none, none, none, none]) (st2 := fun (s32_2 : Int32) => [.int s32_2, .int x5_11]) (h2 := fun (s32_2 : Int32) => h_11) ?_ (fun Q2 hK2 => ?_)
        · intro s32_2
          show Sx K cX1_settle 32 [some (.ref a0), some (.ref a1), some (.int a2), some (.int x1), some (.int x4_11), some (.int x5_11), none, none, none, none, none] [.int s32_2, .int x5_11] h_11 _ _
          refine S_icmp_ge 287 (dc_X1_settle 18 rfl) rfl (fun c32 => ?_) (fun c32 => ?_)
          · refine Sx.cut [false, false, false, false, false, false, true, true, true, true, true] ?_
            exact hK1 h_11
          · refine S_ldcw 1000000000 (dc_X1_settle 19 rfl) ho q907 ?_
            refine S_istore (L' := [some (.ref a0), some (.ref a1), some (.int a2), some (.int x1), some (.int x4_11), some (.int x5_11), some (.int 1000000000), none, none, none, none]) (dc_X1_settle 20 rfl) rfl ?_
            refine S_ldcw 1000000000 (dc_X1_settle 21 rfl) ho q907 ?_
            refine S_istore (L' := [some (.ref a0), some (.ref a1), some (.int a2), some (.int x1), some (.int x4_11), some (.int x5_11), some (.int 1000000000), some (.int 1000000000), none, none, none]) (dc_X1_settle 22 rfl) rfl ?_
            refine S_iconst_ 0 (dc_X1_settle 23 rfl) rfl ?_
            refine S_istore (L' := [some (.ref a0), some (.ref a1), some (.int a2), some (.int x1), some (.int x4_11), some (.int x5_11), some (.int 1000000000), some (.int 1000000000), some (.int 0), none, none]) (dc_X1_settle 24 rfl) rfl ?_
            refine Sx.regK2 (pc2 := 112) (L2 := fun (x6_112_3 : Int32) (x7_112_3 : Int32) => [some (.ref a0), some (.ref a1), some (.int a2), some (.int x1), some (.int x4_11), some (.int x5_11), some (.int x6_112_3), some (.int x7_112_3), none, none, none]) (st2 := fun (x6_112_3 : Int32) (x7_112_3 : Int32) => []) (h2 := fun (x6_112_3 : Int32) (x7_112_3 : Int32) => h_11) ?_ (fun Q3 hK3 => ?_)
            · intro x6_112_3 x7_112_3
              show Sx K cX1_settle 112 [some (.ref a0), some (.ref a1), some (.int a2), some (.int x1), some (.int x4_11), some (.int x5_11), some (.int x6_112_3), some (.int x7_112_3), none, none, none] [] h_11 _ _
              refine S_iconst_ 0 (dc_X1_settle 56 rfl) rfl ?_
              refine S_istore (L' := [some (.ref a0), some (.ref a1), some (.int a2), some (.int x1), some (.int x4_11), some (.int x5_11), some (.int x6_112_3), some (.int x7_112_3), some (.int 0), none, none]) (dc_X1_settle 57 rfl) rfl ?_
              refine Sx.regK2 (pc2 := 281) (L2 := fun (x4_281_4 : Int32) (h281_4 : e_H) => [some (.ref a0), some (.ref a1), some (.int a2), some (.int x1), some (.int x4_281_4), some (.int x5_11), none, none, none, none, none]) (st2 := fun (x4_281_4 : Int32) (h281_4 : e_H) => []) (h2 := fun (x4_281_4 : Int32) (h281_4 : e_H) => h281_4) ?_ (fun Q4 hK4 => ?_)
              · intro x4_281_4 h281_4
                show Sx K cX1_settle 281 [some (.ref a0), some (.ref a1), some (.int a2), some (.int x1), some (.int x4_281_4), some (.int x5_11), none, none, none, none, none] [] h281_4 _ _
                refine S_iincN 1 (L' := fun x281 => [some (.ref a0), some (.ref a1), some (.int a2), some (.int x1), some (.int x4_281_4), some (.int x281), none, none, none, none, none]) (dc_X1_settle 153 rfl) rfl rfl (fun _ => rfl) (fun x281 n281 => ?_)
                refine S_goto 11 (dc_X1_settle 154 rfl) rfl ?_
                exact ih1 x4_281_4 x281 h281_4
              · have hK4 : ∀ (x4_281_4 : Int32) (h281_4 : e_H), Sx K cX1_settle 281 [some (.ref a0), some (.ref a1), some (.int a2), some (.int x1), some (.int x4_281_4), some (.int x5_11), none, none, none, none, none] [] h281_4 (some (x4_281_4, h281_4)) Q4 := hK4
                have ih4 : ∀ (n : Nat) (x4_115 : Int32) (x8_115 : Int32) (h_115 : e_H), Sx K cX1_settle 115 [some (.ref a0), some (.ref a1), some (.int a2), some (.int x1), some (.int x4_115), some (.int x5_11), some (.int x6_112_3), some (.int x7_112_3), some (.int x8_115), none, none] [] h_115 (lp_X1_settle_115 F a0 a1 x1 x5_11 x6_112_3 x7_112_3 n x4_115 x8_115 h_115) Q4 := by
                  intro n
                  induction n with
                  | zero => intro x4_115 x8_115 h_115; exact Sx.none
                  | succ n ih4 =>
                    intro x4_115 x8_115 h_115
                    rw [lp_X1_settle_115.eq_2]
                    refine S_iload (dc_X1_settle 58 rfl) rfl ?_
                    refine S_iconst_ 2 (dc_X1_settle 59 rfl) rfl ?_
                    refine S_iload_n (dc_X1_settle 60 rfl) rfl ?_
                    refine S_imul (dc_X1_settle 61 rfl) ?_
                    refine S_icmp_ge 281 (dc_X1_settle 62 rfl) rfl (fun c120 => ?_) (fun c120 => ?_)
                    · refine Sx.cut [true, true, true, true, true, true, false, false, false, true, true] ?_
                      exact hK4 x4_115 h_115
                    · refine S_iconst_ 0 (dc_X1_settle 63 rfl) rfl ?_
                      refine S_istore (L' := [some (.ref a0), some (.ref a1), some (.int a2), some (.int x1), some (.int x4_115), some (.int x5_11), some (.int x6_112_3), some (.int x7_112_3), some (.int x8_115), some (.int 0), none]) (dc_X1_settle 64 rfl) rfl ?_
                      refine Sx.regK1 (pc2 := 231) (L2 := fun (h231_5 : e_H) => [some (.ref a0), some (.ref a1), some (.int a2), some (.int x1), some (.int x4_115), some (.int x5_11), some (.int x6_112_3), some (.int x7_112_3), some (.int x8_115), none, none]) (st2 := fun (h231_5 : e_H) => []) (h2 := fun (h231_5 : e_H) => h231_5) ?_ (fun Q5 hK5 => ?_)
                      · intro h231_5
                        show Sx K cX1_settle 231 [some (.ref a0), some (.ref a1), some (.int a2), some (.int x1), some (.int x4_115), some (.int x5_11), some (.int x6_112_3), some (.int x7_112_3), some (.int x8_115), none, none] [] h231_5 _ _
                        refine S_iload (dc_X1_settle 127 rfl) rfl ?_
                        refine Sx.regK2 (pc2 := 275) (L2 := fun (x4_275_7 : Int32) (h275_7 : e_H) => [some (.ref a0), some (.ref a1), some (.int a2), some (.int x1), some (.int x4_275_7), some (.int x5_11), some (.int x6_112_3), some (.int x7_112_3), some (.int x8_115), none, none]) (st2 := fun (x4_275_7 : Int32) (h275_7 : e_H) => []) (h2 := fun (x4_275_7 : Int32) (h275_7 : e_H) => h275_7) ?_ (fun Q7 hK7 => ?_)
                        · intro x4_275_7 h275_7
                          show Sx K cX1_settle 275 [some (.ref a0), some (.ref a1), some (.int a2), some (.int x1), some (.int x4_275_7), some (.int x5_11), some (.int x6_112_3), some (.int x7_112_3), some (.int x8_115), none, none] [] h275_7 _ _
                          refine S_iincN 1 (L' := fun x275 => [some (.ref a0), some (.ref a1), some (.int a2), some (.int x1), some (.int x4_275_7), some (.int x5_11), some (.int x6_112_3), some (.int x7_112_3), some (.int x275), none, none]) (dc_X1_settle 151 rfl) rfl rfl (fun _ => rfl) (fun x275 n275 => ?_)
                          refine S_goto 115 (dc_X1_settle 152 rfl) rfl ?_
                          exact ih4 x4_275_7 x275 h275_7
                        · have hK7 : ∀ (x4_275_7 : Int32) (h275_7 : e_H), Sx K cX1_settle 275 [some (.ref a0), some (.ref a1), some (.int a2), some (.int x1), some (.int x4_275_7), some (.int x5_11), some (.int x6_112_3), some (.int x7_112_3), some (.int x8_115), none, none] [] h275_7 (some (x4_275_7, h275_7)) Q7 := hK7
                          refine Sx.regKE0 (pc2 := 256) (L2 := [some (.ref a0), some (.ref a1), some (.int a2), some (.int x1), none, some (.int x5_11), some (.int x6_112_3), some (.int x7_112_3), some (.int x8_115), none, none]) (st2 := []) (h2 := h231_5) ?_ (fun Q8 hK8 hE8 => ?_)
                          · skip
                            refine S_iconst_ 0 (dc_X1_settle 139 rfl) rfl ?_
                            refine S_istore (L' := [some (.ref a0), some (.ref a1), some (.int a2), some (.int x1), some (.int 0), some (.int x5_11), some (.int x6_112_3), some (.int x7_112_3), some (.int x8_115), none, none]) (dc_X1_settle 140 rfl) rfl ?_
                            refine S_aload_n (dc_X1_settle 141 rfl) rfl ?_
                            refine S_getA (dc_X1_settle 142 rfl) ho fl_X1_92_0_13 (fun _ _ => rfl) (fun x260 e260 => ?_)
                            refine S_iconst_ 0 (dc_X1_settle 143 rfl) rfl ?_
                            refine S_aload_n (dc_X1_settle 144 rfl) rfl ?_
                            refine S_getA (dc_X1_settle 145 rfl) ho fl_X1_96_0_14 (fun _ _ => rfl) (fun x265 e265 => ?_)
                            refine S_iconst_ 0 (dc_X1_settle 146 rfl) rfl ?_
                            refine S_iconst_ 2 (dc_X1_settle 147 rfl) rfl ?_
                            refine S_iload_n (dc_X1_settle 148 rfl) rfl ?_
                            refine S_imul (dc_X1_settle 149 rfl) ?_
                            refine S_copyI (dc_X1_settle 150 rfl) ho q917 (by omega) (Nat.le_of_ble_eq_true rfl) (fun h272 e272 => ?_)
                            exact hK7 0 h272
                          · have hK8 : Sx K cX1_settle 256 [some (.ref a0), some (.ref a1), some (.int a2), some (.int x1), none, some (.int x5_11), some (.int x6_112_3), some (.int x7_112_3), some (.int x8_115), none, none] [] h231_5 (some (.ok ())) Q8 := hK8
                            refine S_if_ne 256 (dc_X1_settle 128 rfl) rfl (fun c233 => ?_) (fun c233 => ?_)
                            · refine Sx.cut [true, true, true, true, false, true, true, true, true, true, true] ?_
                              exact hK8
                            · refine S_aload_n (dc_X1_settle 129 rfl) rfl ?_
                              refine S_getA (dc_X1_settle 130 rfl) ho fl_X1_92_0_13 (fun _ _ => rfl) (fun x237 e237 => ?_)
                              refine S_aload_n (dc_X1_settle 131 rfl) rfl ?_
                              refine S_getA (dc_X1_settle 132 rfl) ho fl_X1_96_0_14 (fun _ _ => rfl) (fun x241 e241 => ?_)
                              refine S_iconst_ 2 (dc_X1_settle 133 rfl) rfl ?_
                              refine S_iload_n (dc_X1_settle 134 rfl) rfl ?_
                              refine S_imul (dc_X1_settle 135 rfl) ?_
                              refine S_roI (d := k_d K - 1) (e_callS (As := [.ref x237, .ref x241, .int (2 * x1)]) (rest := []) ok_X1_isLess rfl (Nat.le_of_ble_eq_true rfl) (dc_X1_settle 136 rfl) ho q914 q915 rfl (Nat.le_of_ble_eq_true rfl)) (by omega) (fun _ e => ct_X1_isLess (by omega) e) (fun x247 e247 => ?_)
                              refine S_if_ne 256 (dc_X1_settle 137 rfl) rfl (fun c250 => ?_) (fun c250 => ?_)
                              · refine Sx.cut [true, true, true, true, false, true, true, true, true, true, true] ?_
                                exact hK8
                              · refine S_goto 275 (dc_X1_settle 138 rfl) rfl ?_
                                refine Sx.err hE8 ?_
                                exact hK7 x4_115 h231_5
                      · have hK5 : ∀ (h231_5 : e_H), Sx K cX1_settle 231 [some (.ref a0), some (.ref a1), some (.int a2), some (.int x1), some (.int x4_115), some (.int x5_11), some (.int x6_112_3), some (.int x7_112_3), some (.int x8_115), none, none] [] h231_5 (some h231_5) Q5 := hK5
                        have ih5 : ∀ (n : Nat) (x9_126 : Int32) (h_126 : e_H), Sx K cX1_settle 126 [some (.ref a0), some (.ref a1), some (.int a2), some (.int x1), some (.int x4_115), some (.int x5_11), some (.int x6_112_3), some (.int x7_112_3), some (.int x8_115), some (.int x9_126), none] [] h_126 (lp_X1_settle_126 F a0 a1 x1 x5_11 x6_112_3 x7_112_3 x8_115 n x9_126 h_126) Q5 := by
                          intro n
                          induction n with
                          | zero => intro x9_126 h_126; exact Sx.none
                          | succ n ih5 =>
                            intro x9_126 h_126
                            rw [lp_X1_settle_126.eq_2]
                            refine S_iload (dc_X1_settle 65 rfl) rfl ?_
                            refine S_iload_n (dc_X1_settle 66 rfl) rfl ?_
                            refine S_icmp_ge 231 (dc_X1_settle 67 rfl) rfl (fun c129 => ?_) (fun c129 => ?_)
                            · refine Sx.cut [true, true, true, true, true, true, true, true, true, false, true] ?_
                              exact hK5 h_126
                            · refine S_iload (dc_X1_settle 68 rfl) rfl ?_
                              refine S_iload_n (dc_X1_settle 69 rfl) rfl ?_
                              refine Sx.regK1 (pc2 := 159) (L2 := fun (s159_6 : Int32) => [some (.ref a0), some (.ref a1), some (.int a2), some (.int x1), some (.int x4_115), some (.int x5_11), some (.int x6_112_3), some (.int x7_112_3), some (.int x8_115), some (.int x9_126), none]) (st2 := fun (s159_6 : Int32) => [.int s159_6]) (h2 := fun (s159_6 : Int32) => h_126) ?_ (fun Q6 hK6 => ?_)
                              · intro s159_6
                                show Sx K cX1_settle 159 [some (.ref a0), some (.ref a1), some (.int a2), some (.int x1), some (.int x4_115), some (.int x5_11), some (.int x6_112_3), some (.int x7_112_3), some (.int x8_115), some (.int x9_126), none] [.int s159_6] h_126 _ _
                                refine S_istore (L' := [some (.ref a0), some (.ref a1), some (.int a2), some (.int x1), some (.int x4_115), some (.int x5_11), some (.int x6_112_3), some (.int x7_112_3), some (.int x8_115), some (.int x9_126), some (.int s159_6)]) (dc_X1_settle 86 rfl) rfl ?_
                                refine S_aload_n (dc_X1_settle 87 rfl) rfl ?_
                                refine S_getA (dc_X1_settle 88 rfl) ho fl_X1_92_0_13 (fun _ _ => rfl) (fun x162 e162 => ?_)
                                refine S_iconst_ 2 (dc_X1_settle 89 rfl) rfl ?_
                                refine S_iload (dc_X1_settle 90 rfl) rfl ?_
                                refine S_imul (dc_X1_settle 91 rfl) ?_
                                refine S_iload (dc_X1_settle 92 rfl) rfl ?_
                                refine S_aload_n (dc_X1_settle 93 rfl) rfl ?_
                                refine S_getA (dc_X1_settle 94 rfl) ho fl_X1_273_6_0 (fun _ _ => rfl) (fun x172 e172 => ?_)
                                refine S_iload (dc_X1_settle 95 rfl) rfl ?_
                                refine S_iald (dc_X1_settle 96 rfl) (fun x177 e177 => ?_)
                                refine S_aload_n (dc_X1_settle 97 rfl) rfl ?_
                                refine S_getA (dc_X1_settle 98 rfl) ho fl_X1_270_6_1 (fun _ _ => rfl) (fun x179 e179 => ?_)
                                refine S_iload (dc_X1_settle 99 rfl) rfl ?_
                                refine S_iald (dc_X1_settle 100 rfl) (fun x184 e184 => ?_)
                                refine S_roI (d := k_d K - 1) (e_callS (As := [.int x5_11, .int x177, .int x184]) (rest := [.int (2 * x9_126), .ref x162]) ok_X1_turnedX rfl (Nat.le_of_ble_eq_true rfl) (dc_X1_settle 101 rfl) ho q908 q909 rfl (Nat.le_of_ble_eq_true rfl)) (by omega) (fun _ e => ct_X1_turnedX (by omega) e) (fun x185 e185 => ?_)
                                refine S_iload (dc_X1_settle 102 rfl) rfl ?_
                                refine S_isub (dc_X1_settle 103 rfl) ?_
                                refine S_iast (dc_X1_settle 104 rfl) (fun h191 e191 => ?_)
                                refine S_aload_n (dc_X1_settle 105 rfl) rfl ?_
                                refine S_getA (dc_X1_settle 106 rfl) ho fl_X1_92_0_13 (fun _ _ => rfl) (fun x193 e193 => ?_)
                                refine S_iconst_ 2 (dc_X1_settle 107 rfl) rfl ?_
                                refine S_iload (dc_X1_settle 108 rfl) rfl ?_
                                refine S_imul (dc_X1_settle 109 rfl) ?_
                                refine S_iconst_ 1 (dc_X1_settle 110 rfl) rfl ?_
                                refine S_iadd (dc_X1_settle 111 rfl) ?_
                                refine S_iload (dc_X1_settle 112 rfl) rfl ?_
                                refine S_aload_n (dc_X1_settle 113 rfl) rfl ?_
                                refine S_getA (dc_X1_settle 114 rfl) ho fl_X1_273_6_0 (fun _ _ => rfl) (fun x205 e205 => ?_)
                                refine S_iload (dc_X1_settle 115 rfl) rfl ?_
                                refine S_iald (dc_X1_settle 116 rfl) (fun x210 e210 => ?_)
                                refine S_aload_n (dc_X1_settle 117 rfl) rfl ?_
                                refine S_getA (dc_X1_settle 118 rfl) ho fl_X1_270_6_1 (fun _ _ => rfl) (fun x212 e212 => ?_)
                                refine S_iload (dc_X1_settle 119 rfl) rfl ?_
                                refine S_iald (dc_X1_settle 120 rfl) (fun x217 e217 => ?_)
                                refine S_roI (d := k_d K - 1) (e_callS (As := [.int x5_11, .int x210, .int x217]) (rest := [.int ((2 * x9_126) + 1), .ref x193]) ok_X1_turnedY rfl (Nat.le_of_ble_eq_true rfl) (dc_X1_settle 121 rfl) ho q911 q912 rfl (Nat.le_of_ble_eq_true rfl)) (by omega) (fun _ e => ct_X1_turnedY (by omega) e) (fun x218 e218 => ?_)
                                refine S_iload (dc_X1_settle 122 rfl) rfl ?_
                                refine S_isub (dc_X1_settle 123 rfl) ?_
                                refine S_iast (dc_X1_settle 124 rfl) (fun h224 e224 => ?_)
                                refine S_iincN 1 (L' := fun x225 => [some (.ref a0), some (.ref a1), some (.int a2), some (.int x1), some (.int x4_115), some (.int x5_11), some (.int x6_112_3), some (.int x7_112_3), some (.int x8_115), some (.int x225), some (.int s159_6)]) (dc_X1_settle 125 rfl) rfl rfl (fun _ => rfl) (fun x225 n225 => ?_)
                                refine S_goto 126 (dc_X1_settle 126 rfl) rfl ?_
                                refine Sx.cut [true, true, true, true, true, true, true, true, true, true, false] ?_
                                exact ih5 x225 h224
                              · have hK6 : ∀ (s159_6 : Int32), Sx K cX1_settle 159 [some (.ref a0), some (.ref a1), some (.int a2), some (.int x1), some (.int x4_115), some (.int x5_11), some (.int x6_112_3), some (.int x7_112_3), some (.int x8_115), some (.int x9_126), none] [.int s159_6] h_126 (some s159_6) Q6 := hK6
                                refine S_icmp_ge 148 (dc_X1_settle 70 rfl) rfl (fun c135 => ?_) (fun c135 => ?_)
                                · refine S_iconst_ 2 (dc_X1_settle 77 rfl) rfl ?_
                                  refine S_iload_n (dc_X1_settle 78 rfl) rfl ?_
                                  refine S_imul (dc_X1_settle 79 rfl) ?_
                                  refine S_iload (dc_X1_settle 80 rfl) rfl ?_
                                  refine S_iadd (dc_X1_settle 81 rfl) ?_
                                  refine S_iload (dc_X1_settle 82 rfl) rfl ?_
                                  refine S_isub (dc_X1_settle 83 rfl) ?_
                                  refine S_iload_n (dc_X1_settle 84 rfl) rfl ?_
                                  refine Sx.ncond (fun c158 => ?_)
                                  refine S_irem (dc_X1_settle 85 rfl) c158 ?_
                                  exact hK6 ((((2 * x1) + x8_115) - x9_126) - (((2 * x1) + x8_115) - x9_126) / x1 * x1)
                                · refine S_iload (dc_X1_settle 71 rfl) rfl ?_
                                  refine S_iload (dc_X1_settle 72 rfl) rfl ?_
                                  refine S_iadd (dc_X1_settle 73 rfl) ?_
                                  refine S_iload_n (dc_X1_settle 74 rfl) rfl ?_
                                  refine Sx.ncond (fun c144 => ?_)
                                  refine S_irem (dc_X1_settle 75 rfl) c144 ?_
                                  refine S_goto 159 (dc_X1_settle 76 rfl) rfl ?_
                                  exact hK6 ((x8_115 + x9_126) - (x8_115 + x9_126) / x1 * x1)
                        exact ih5 F 0 h_115
                exact ih4 F x4_11 0 h_11
            · have hK3 : ∀ (x6_112_3 : Int32) (x7_112_3 : Int32), Sx K cX1_settle 112 [some (.ref a0), some (.ref a1), some (.int a2), some (.int x1), some (.int x4_11), some (.int x5_11), some (.int x6_112_3), some (.int x7_112_3), none, none, none] [] h_11 (some (x6_112_3, x7_112_3)) Q3 := hK3
              have ih3 : ∀ (n : Nat) (x6_48 : Int32) (x7_48 : Int32) (x8_48 : Int32), Sx K cX1_settle 48 [some (.ref a0), some (.ref a1), some (.int a2), some (.int x1), some (.int x4_11), some (.int x5_11), some (.int x6_48), some (.int x7_48), some (.int x8_48), none, none] [] h_11 (lp_X1_settle_48 F h_11 a1 x1 x5_11 n x6_48 x7_48 x8_48) Q3 := by
                intro n
                induction n with
                | zero => intro x6_48 x7_48 x8_48; exact Sx.none
                | succ n ih3 =>
                  intro x6_48 x7_48 x8_48
                  rw [lp_X1_settle_48.eq_2]
                  refine S_iload (dc_X1_settle 25 rfl) rfl ?_
                  refine S_iload_n (dc_X1_settle 26 rfl) rfl ?_
                  refine S_icmp_ge 112 (dc_X1_settle 27 rfl) rfl (fun c51 => ?_) (fun c51 => ?_)
                  · refine Sx.cut [true, true, true, true, true, true, true, true, false, true, true] ?_
                    exact hK3 x6_48 x7_48
                  · refine S_iload (dc_X1_settle 28 rfl) rfl ?_
                    refine S_iload (dc_X1_settle 29 rfl) rfl ?_
                    refine S_aload_n (dc_X1_settle 30 rfl) rfl ?_
                    refine S_getA (dc_X1_settle 31 rfl) ho fl_X1_273_6_0 (fun _ _ => rfl) (fun x59 e59 => ?_)
                    refine S_iload (dc_X1_settle 32 rfl) rfl ?_
                    refine S_iald (dc_X1_settle 33 rfl) (fun x64 e64 => ?_)
                    refine S_aload_n (dc_X1_settle 34 rfl) rfl ?_
                    refine S_getA (dc_X1_settle 35 rfl) ho fl_X1_270_6_1 (fun _ _ => rfl) (fun x66 e66 => ?_)
                    refine S_iload (dc_X1_settle 36 rfl) rfl ?_
                    refine S_iald (dc_X1_settle 37 rfl) (fun x71 e71 => ?_)
                    refine S_roI (d := k_d K - 1) (e_callS (As := [.int x5_11, .int x64, .int x71]) (rest := [.int x6_48]) ok_X1_turnedX rfl (Nat.le_of_ble_eq_true rfl) (dc_X1_settle 38 rfl) ho q908 q909 rfl (Nat.le_of_ble_eq_true rfl)) (by omega) (fun _ e => ct_X1_turnedX (by omega) e) (fun x72 e72 => ?_)
                    refine S_mmin (dc_X1_settle 39 rfl) ho q819 (by omega) (Nat.le_of_ble_eq_true rfl) ?_
                    refine Sx.nameI (fun x78 n78 => ?_)
                    refine S_istore (L' := [some (.ref a0), some (.ref a1), some (.int a2), some (.int x1), some (.int x4_11), some (.int x5_11), some (.int x78), some (.int x7_48), some (.int x8_48), none, none]) (dc_X1_settle 40 rfl) rfl ?_
                    refine S_iload (dc_X1_settle 41 rfl) rfl ?_
                    refine S_iload (dc_X1_settle 42 rfl) rfl ?_
                    refine S_aload_n (dc_X1_settle 43 rfl) rfl ?_
                    refine S_getA (dc_X1_settle 44 rfl) ho fl_X1_273_6_0 (fun _ _ => rfl) (fun x85 e85 => ?_)
                    refine S_iload (dc_X1_settle 45 rfl) rfl ?_
                    refine S_iald (dc_X1_settle 46 rfl) (fun x90 e90 => ?_)
                    refine S_aload_n (dc_X1_settle 47 rfl) rfl ?_
                    refine S_getA (dc_X1_settle 48 rfl) ho fl_X1_270_6_1 (fun _ _ => rfl) (fun x92 e92 => ?_)
                    refine S_iload (dc_X1_settle 49 rfl) rfl ?_
                    refine S_iald (dc_X1_settle 50 rfl) (fun x97 e97 => ?_)
                    refine S_roI (d := k_d K - 1) (e_callS (As := [.int x5_11, .int x90, .int x97]) (rest := [.int x7_48]) ok_X1_turnedY rfl (Nat.le_of_ble_eq_true rfl) (dc_X1_settle 51 rfl) ho q911 q912 rfl (Nat.le_of_ble_eq_true rfl)) (by omega) (fun _ e => ct_X1_turnedY (by omega) e) (fun x98 e98 => ?_)
                    refine S_mmin (dc_X1_settle 52 rfl) ho q819 (by omega) (Nat.le_of_ble_eq_true rfl) ?_
                    refine Sx.nameI (fun x104 n104 => ?_)
                    refine S_istore (L' := [some (.ref a0), some (.ref a1), some (.int a2), some (.int x1), some (.int x4_11), some (.int x5_11), some (.int x78), some (.int x104), some (.int x8_48), none, none]) (dc_X1_settle 53 rfl) rfl ?_
                    refine S_iincN 1 (L' := fun x106 => [some (.ref a0), some (.ref a1), some (.int a2), some (.int x1), some (.int x4_11), some (.int x5_11), some (.int x78), some (.int x104), some (.int x106), none, none]) (dc_X1_settle 54 rfl) rfl rfl (fun _ => rfl) (fun x106 n106 => ?_)
                    refine S_goto 48 (dc_X1_settle 55 rfl) rfl ?_
                    exact ih3 x78 x104 x106
              exact ih3 F 1000000000 1000000000 0
        · have hK2 : ∀ (s32_2 : Int32), Sx K cX1_settle 32 [some (.ref a0), some (.ref a1), some (.int a2), some (.int x1), some (.int x4_11), some (.int x5_11), none, none, none, none, none] [.int s32_2, .int x5_11] h_11 (some s32_2) Q2 := hK2
          refine S_if_ne 21 (dc_X1_settle 9 rfl) rfl (fun c14 => ?_) (fun c14 => ?_)
          · refine S_iload_n (dc_X1_settle 12 rfl) rfl ?_
            refine S_iconst_ 1 (dc_X1_settle 13 rfl) rfl ?_
            refine S_icmp_ne 30 (dc_X1_settle 14 rfl) rfl (fun c23 => ?_) (fun c23 => ?_)
            · refine S_bipush_ 8 (dc_X1_settle 17 rfl) rfl ?_
              exact hK2 8
            · refine S_iconst_ 4 (dc_X1_settle 15 rfl) rfl ?_
              refine S_goto 32 (dc_X1_settle 16 rfl) rfl ?_
              exact hK2 4
          · refine S_iconst_ 1 (dc_X1_settle 10 rfl) rfl ?_
            refine S_goto 32 (dc_X1_settle 11 rfl) rfl ?_
            exact hK2 1
    exact ih1 F 1 0 h
abbrev cX1_areAlike : ByteArray := prog_1_method_30_code
def yX1_areAlike : MethodName := ⟨"PegBands", "areAlike", "(LPegBands$Band;LPegBands$Band;I)Z"⟩
def tb_X1_areAlike : List (Nat × Instr × Nat) := [(0, .aload_n 1, 1), (1, .getfield 251, 3), (4, .aload_n 2, 1), (5, .getfield 251, 3), (8, .if_icmp .eq 5, 3), (11, .iconst 0, 1), (12, .ireturn, 1), (13, .aload_n 0, 1), (14, .aload_n 1, 1), (15, .iload_n 3, 1), (16, .invokevirtual 303, 3), (19, .aload_n 0, 1), (20, .getfield 96, 3), (23, .iconst 0, 1), (24, .aload_n 0, 1), (25, .getfield 99, 3), (28, .iconst 0, 1), (29, .iconst 2, 1), (30, .aload_n 1, 1), (31, .getfield 251, 3), (34, .imul, 1), (35, .invokestatic 297, 3), (38, .aload_n 0, 1), (39, .aload_n 2, 1), (40, .iload_n 3, 1), (41, .invokevirtual 303, 3), (44, .iconst 0, 1), (45, .istore 4, 2), (47, .iload 4, 2), (49, .iconst 2, 1), (50, .aload_n 1, 1), (51, .getfield 251, 3), (54, .imul, 1), (55, .if_icmp .ge 28, 3), (58, .aload_n 0, 1), (59, .getfield 96, 3), (62, .iload 4, 2), (64, .iaload, 1), (65, .aload_n 0, 1), (66, .getfield 99, 3), (69, .iload 4, 2), (71, .iaload, 1), (72, .if_icmp .eq 5, 3), (75, .iconst 0, 1), (76, .ireturn, 1), (77, .iinc 4 1, 3), (80, .goto (-33), 3), (83, .iconst 1, 1), (84, .ireturn, 1)]
theorem tk_X1_areAlike : ∀ q ∈ tb_X1_areAlike, decode cX1_areAlike q.1 = .ok q.2 := by decide +kernel
theorem dc_X1_areAlike (k : Nat) {pc n : Nat} {i : Instr} (h : tb_X1_areAlike[k]? = some (pc, i, n)) : decode cX1_areAlike pc = .ok (i, n) := tk_X1_areAlike (pc, i, n) (List.mem_of_getElem? h)
abbrev mX1_areAlike : e_M := (yX1_areAlike, cX1_areAlike, 5, some (.boolean), [])
theorem ok_X1_areAlike : e_mok mX1_areAlike 3 := ⟨q902, q108, by decide +kernel, fun sig h => by cases h; rfl⟩
theorem fl_X1_99_0_15 : e_FL "PegBands" 99 0 15 := ⟨_, rfl, by decide, Or.inl q473⟩
def lp_X1_areAlike_47 (F : Nat) (h41 : e_H) (a0 : Nat) (a1 : Nat) : Nat → Int32 → Option (Except (Int32 × e_H) Unit)
  | 0, _ => none
  | n + 1, x4_47 =>
    Option.bind (e_fI h41 a1 6 2) (fun x51 =>
    if (2 * x51) ≤ x4_47 then
      some (.ok ())
    else
      Option.bind (e_fA h41 a0 0 14) (fun x59 =>
      Option.bind (e_aI h41 x59 0 x4_47) (fun x64 =>
      Option.bind (e_fA h41 a0 0 15) (fun x66 =>
      Option.bind (e_aI h41 x66 0 x4_47) (fun x71 =>
      if x64 = x71 then
        Option.bind (some (x4_47 + 1)) (fun x77 =>
        lp_X1_areAlike_47 F h41 a0 a1 n x77)
      else
        some (.error (0, h41)))))))
def f_X1_areAlike (F : Nat) (h : e_H) (a0 : Nat) (a1 : Nat) (a2 : Nat) (a3 : Int32) : Option (Int32 × e_H) :=
  Option.bind (e_fI h a1 6 2) (fun x1 =>
  Option.bind (e_fI h a2 6 2) (fun x5 =>
  if x1 = x5 then
    Option.bind (e_is h a0 0) (fun _ =>
    Option.bind (f_X1_settle F h a0 a1 a3) (fun h16 =>
    Option.bind (e_fA h16 a0 0 14) (fun x20 =>
    Option.bind (e_fA h16 a0 0 15) (fun x25 =>
    Option.bind (e_fI h16 a1 6 2) (fun x31 =>
    Option.bind (e_cpI h16 x20 0 x25 0 (2 * x31)) (fun h35 =>
    Option.bind (e_is h35 a0 0) (fun _ =>
    Option.bind (f_X1_settle F h35 a0 a2 a3) (fun h41 =>
    e_bE (
        lp_X1_areAlike_47 F h41 a0 a1 F 0
      : Option (Except (Int32 × e_H) Unit)) (fun _ =>
    some (1, h41))))))))))
  else
    some (0, h)))
set_option maxHeartbeats 4000000 in
set_option maxRecDepth 100000 in
theorem ct_X1_areAlike {l : Launch} {D : e_D} {B : Heap} {F : Nat} {d : Nat} {h : e_H} {a0 : Nat} {a1 : Nat} {a2 : Nat} {a3 : Int32} {v : Int32} {h1 : e_H} (hd : 3 ≤ d) (e : f_X1_areAlike F h a0 a1 a2 a3 = some (v, h1)) : e_Run l D B d mX1_areAlike [.ref a0, .ref a1, .ref a2, .int a3] h (.ok (some (.int v)), h1) := by
  refine e_start [some (.ref a0), some (.ref a1), some (.ref a2), some (.int a3), none] (by decide) rfl rfl rfl (Nat.le_of_ble_eq_true rfl) (fun K hl0 hD0 hB0 hM hd0 hr => ?_)
  subst hl0 hD0 hB0 hd0
  have ho : (k_M K).1.cls = "PegBands" := by rw [hM]; rfl
  have hT : (k_M K).2.2.2.1 = some (.boolean) := by rw [hM]
  refine (show Sx K cX1_areAlike 0 [some (.ref a0), some (.ref a1), some (.ref a2), some (.int a3), none] [] h (f_X1_areAlike F h a0 a1 a2 a3) (fun w => w = (v, h1)) from ?_) _ e rfl
  clear e
  unfold f_X1_areAlike
  refine S_aload_n (dc_X1_areAlike 0 rfl) rfl ?_
  refine S_getI (dc_X1_areAlike 1 rfl) ho fl_X1_251_6_2 (fun _ _ => rfl) (fun x1 e1 => ?_)
  refine S_aload_n (dc_X1_areAlike 2 rfl) rfl ?_
  refine S_getI (dc_X1_areAlike 3 rfl) ho fl_X1_251_6_2 (fun _ _ => rfl) (fun x5 e5 => ?_)
  refine S_icmp_eq 13 (dc_X1_areAlike 4 rfl) rfl (fun c8 => ?_) (fun c8 => ?_)
  · refine S_aload_n (dc_X1_areAlike 7 rfl) rfl ?_
    refine S_aload_n (dc_X1_areAlike 8 rfl) rfl ?_
    refine S_iload_n (dc_X1_areAlike 9 rfl) rfl ?_
    refine Sx.ask (fun _ i16 => ?_)
    refine S_rwV (d := k_d K - 1) (e_callV (b := a0) (As := [.ref a1, .int a3]) (rest := []) ok_X1_settle rfl (Nat.le_of_ble_eq_true rfl) (dc_X1_areAlike 10 rfl) ho q903 q905 (show e_cl[0]? = some (RX1, TX1, 37) from rfl) (e_sel.of qs9) (e_is_of i16) rfl (Nat.le_of_ble_eq_true rfl)) (by omega) (fun _ e => ct_X1_settle (by omega) e) (fun h16 e16 => ?_)
    refine S_aload_n (dc_X1_areAlike 11 rfl) rfl ?_
    refine S_getA (dc_X1_areAlike 12 rfl) ho fl_X1_96_0_14 (fun _ _ => rfl) (fun x20 e20 => ?_)
    refine S_iconst_ 0 (dc_X1_areAlike 13 rfl) rfl ?_
    refine S_aload_n (dc_X1_areAlike 14 rfl) rfl ?_
    refine S_getA (dc_X1_areAlike 15 rfl) ho fl_X1_99_0_15 (fun _ _ => rfl) (fun x25 e25 => ?_)
    refine S_iconst_ 0 (dc_X1_areAlike 16 rfl) rfl ?_
    refine S_iconst_ 2 (dc_X1_areAlike 17 rfl) rfl ?_
    refine S_aload_n (dc_X1_areAlike 18 rfl) rfl ?_
    refine S_getI (dc_X1_areAlike 19 rfl) ho fl_X1_251_6_2 (fun _ _ => rfl) (fun x31 e31 => ?_)
    refine S_imul (dc_X1_areAlike 20 rfl) ?_
    refine S_copyI (dc_X1_areAlike 21 rfl) ho q917 (by omega) (Nat.le_of_ble_eq_true rfl) (fun h35 e35 => ?_)
    refine S_aload_n (dc_X1_areAlike 22 rfl) rfl ?_
    refine S_aload_n (dc_X1_areAlike 23 rfl) rfl ?_
    refine S_iload_n (dc_X1_areAlike 24 rfl) rfl ?_
    refine Sx.ask (fun _ i41 => ?_)
    refine S_rwV (d := k_d K - 1) (e_callV (b := a0) (As := [.ref a2, .int a3]) (rest := []) ok_X1_settle rfl (Nat.le_of_ble_eq_true rfl) (dc_X1_areAlike 25 rfl) ho q903 q905 (show e_cl[0]? = some (RX1, TX1, 37) from rfl) (e_sel.of qs9) (e_is_of i41) rfl (Nat.le_of_ble_eq_true rfl)) (by omega) (fun _ e => ct_X1_settle (by omega) e) (fun h41 e41 => ?_)
    refine S_iconst_ 0 (dc_X1_areAlike 26 rfl) rfl ?_
    refine S_istore (L' := [some (.ref a0), some (.ref a1), some (.ref a2), some (.int a3), some (.int 0)]) (dc_X1_areAlike 27 rfl) rfl ?_
    refine Sx.regKE0 (pc2 := 83) (L2 := [none, none, none, none, none]) (st2 := []) (h2 := h41) ?_ (fun Q1 hK1 hE1 => ?_)
    · skip
      refine S_iconst_ 1 (dc_X1_areAlike 47 rfl) rfl ?_
      exact S_iret (dc_X1_areAlike 48 rfl) hT rfl (e_rqI hr)
    · have hK1 : Sx K cX1_areAlike 83 [none, none, none, none, none] [] h41 (some (.ok ())) Q1 := hK1
      have ih1 : ∀ (n : Nat) (x4_47 : Int32), Sx K cX1_areAlike 47 [some (.ref a0), some (.ref a1), none, none, some (.int x4_47)] [] h41 (lp_X1_areAlike_47 F h41 a0 a1 n x4_47) Q1 := by
        intro n
        induction n with
        | zero => intro x4_47; exact Sx.none
        | succ n ih1 =>
          intro x4_47
          rw [lp_X1_areAlike_47.eq_2]
          refine S_iload (dc_X1_areAlike 28 rfl) rfl ?_
          refine S_iconst_ 2 (dc_X1_areAlike 29 rfl) rfl ?_
          refine S_aload_n (dc_X1_areAlike 30 rfl) rfl ?_
          refine S_getI (dc_X1_areAlike 31 rfl) ho fl_X1_251_6_2 (fun _ _ => rfl) (fun x51 e51 => ?_)
          refine S_imul (dc_X1_areAlike 32 rfl) ?_
          refine S_icmp_ge 83 (dc_X1_areAlike 33 rfl) rfl (fun c55 => ?_) (fun c55 => ?_)
          · refine Sx.cut [false, false, true, true, false] ?_
            exact hK1
          · refine S_aload_n (dc_X1_areAlike 34 rfl) rfl ?_
            refine S_getA (dc_X1_areAlike 35 rfl) ho fl_X1_96_0_14 (fun _ _ => rfl) (fun x59 e59 => ?_)
            refine S_iload (dc_X1_areAlike 36 rfl) rfl ?_
            refine S_iald (dc_X1_areAlike 37 rfl) (fun x64 e64 => ?_)
            refine S_aload_n (dc_X1_areAlike 38 rfl) rfl ?_
            refine S_getA (dc_X1_areAlike 39 rfl) ho fl_X1_99_0_15 (fun _ _ => rfl) (fun x66 e66 => ?_)
            refine S_iload (dc_X1_areAlike 40 rfl) rfl ?_
            refine S_iald (dc_X1_areAlike 41 rfl) (fun x71 e71 => ?_)
            refine S_icmp_eq 77 (dc_X1_areAlike 42 rfl) rfl (fun c72 => ?_) (fun c72 => ?_)
            · refine S_iincN 1 (L' := fun x77 => [some (.ref a0), some (.ref a1), none, none, some (.int x77)]) (dc_X1_areAlike 45 rfl) rfl rfl (fun _ => rfl) (fun x77 n77 => ?_)
              refine S_goto 47 (dc_X1_areAlike 46 rfl) rfl ?_
              exact ih1 x77
            · refine S_iconst_ 0 (dc_X1_areAlike 43 rfl) rfl ?_
              refine Sx.err hE1 ?_
              exact S_iret (dc_X1_areAlike 44 rfl) hT rfl (e_rqI hr)
      refine Sx.cut [true, true, false, false, true] ?_
      exact ih1 F 0
  · refine S_iconst_ 0 (dc_X1_areAlike 5 rfl) rfl ?_
    exact S_iret (dc_X1_areAlike 6 rfl) hT rfl (e_rqI hr)
abbrev cX8_next : ByteArray := prog_3_method_5_code
def yX8_next : MethodName := ⟨"PegBands$Band", "next", "(I)I"⟩
def tb_X8_next : List (Nat × Instr × Nat) := [(0, .iload_n 1, 1), (1, .iconst 1, 1), (2, .iadd, 1), (3, .aload_n 0, 1), (4, .getfield 28, 3), (7, .if_icmp .ne 7, 3), (10, .iconst 0, 1), (11, .goto 6, 3), (14, .iload_n 1, 1), (15, .iconst 1, 1), (16, .iadd, 1), (17, .ireturn, 1)]
theorem tk_X8_next : ∀ q ∈ tb_X8_next, decode cX8_next q.1 = .ok q.2 := by decide +kernel
theorem dc_X8_next (k : Nat) {pc n : Nat} {i : Instr} (h : tb_X8_next[k]? = some (pc, i, n)) : decode cX8_next pc = .ok (i, n) := tk_X8_next (pc, i, n) (List.mem_of_getElem? h)
abbrev mX8_next : e_M := (yX8_next, cX8_next, 2, some (.int), [])
theorem ok_X8_next : e_mok mX8_next 1 := ⟨q801, q117, by decide +kernel, fun sig h => by cases h; rfl⟩
def f_X8_next (h : e_H) (a0 : Nat) (a1 : Int32) : Option Int32 :=
  Option.bind (e_fI h a0 6 2) (fun x4 =>
  if (a1 + 1) = x4 then
    some 0
  else
    some (a1 + 1))
set_option maxHeartbeats 4000000 in
set_option maxRecDepth 100000 in
theorem ct_X8_next {l : Launch} {D : e_D} {B : Heap} {d : Nat} {h : e_H} {a0 : Nat} {a1 : Int32} {v : Int32} (hd : 1 ≤ d) (e : f_X8_next h a0 a1 = some v) : e_Run l D B d mX8_next [.ref a0, .int a1] h (.ok (some (.int v)), h) := by
  refine e_start [some (.ref a0), some (.int a1)] (by decide) rfl rfl rfl (Nat.le_of_ble_eq_true rfl) (fun K hl0 hD0 hB0 hM hd0 hr => ?_)
  subst hl0 hD0 hB0 hd0
  have ho : (k_M K).1.cls = "PegBands$Band" := by rw [hM]; rfl
  have hT : (k_M K).2.2.2.1 = some (.int) := by rw [hM]
  refine (show Sx K cX8_next 0 [some (.ref a0), some (.int a1)] [] h (f_X8_next h a0 a1) (fun w => w = v) from ?_) _ e rfl
  clear e
  unfold f_X8_next
  refine S_iload_n (dc_X8_next 0 rfl) rfl ?_
  refine S_iconst_ 1 (dc_X8_next 1 rfl) rfl ?_
  refine S_iadd (dc_X8_next 2 rfl) ?_
  refine S_aload_n (dc_X8_next 3 rfl) rfl ?_
  refine S_getI (dc_X8_next 4 rfl) ho fl_X8_28_6_2 (fun _ _ => rfl) (fun x4 e4 => ?_)
  refine S_icmp_ne 14 (dc_X8_next 5 rfl) rfl (fun c7 => ?_) (fun c7 => ?_)
  · refine S_iload_n (dc_X8_next 8 rfl) rfl ?_
    refine S_iconst_ 1 (dc_X8_next 9 rfl) rfl ?_
    refine S_iadd (dc_X8_next 10 rfl) ?_
    exact S_iret (dc_X8_next 11 rfl) hT rfl (fun q => by cases q; exact hr)
  · refine S_iconst_ 0 (dc_X8_next 6 rfl) rfl ?_
    refine S_goto 17 (dc_X8_next 7 rfl) rfl ?_
    exact S_iret (dc_X8_next 11 rfl) hT rfl (fun q => by cases q; exact hr)
abbrev cX1_turn : ByteArray := prog_1_method_9_code
def yX1_turn : MethodName := ⟨"PegBands", "turn", "(IIIIII)I"⟩
def tb_X1_turn : List (Nat × Instr × Nat) := [(0, .iload_n 2, 1), (1, .iload_n 0, 1), (2, .isub, 1), (3, .iload 5, 2), (5, .iload_n 1, 1), (6, .isub, 1), (7, .imul, 1), (8, .iload_n 3, 1), (9, .iload_n 1, 1), (10, .isub, 1), (11, .iload 4, 2), (13, .iload_n 0, 1), (14, .isub, 1), (15, .imul, 1), (16, .isub, 1), (17, .ireturn, 1)]
theorem tk_X1_turn : ∀ q ∈ tb_X1_turn, decode cX1_turn q.1 = .ok q.2 := by decide +kernel
theorem dc_X1_turn (k : Nat) {pc n : Nat} {i : Instr} (h : tb_X1_turn[k]? = some (pc, i, n)) : decode cX1_turn pc = .ok (i, n) := tk_X1_turn (pc, i, n) (List.mem_of_getElem? h)
abbrev mX1_turn : e_M := (yX1_turn, cX1_turn, 6, some (.int), [])
theorem ok_X1_turn : e_mok mX1_turn 6 := ⟨q804, q108, by decide +kernel, fun sig h => by cases h; rfl⟩
def f_X1_turn (a0 : Int32) (a1 : Int32) (a2 : Int32) (a3 : Int32) (a4 : Int32) (a5 : Int32) : Option Int32 :=
  some (((a2 - a0) * (a5 - a1)) - ((a3 - a1) * (a4 - a0)))
set_option maxHeartbeats 4000000 in
set_option maxRecDepth 100000 in
theorem ct_X1_turn {l : Launch} {D : e_D} {B : Heap} {d : Nat} {h : e_H} {a0 : Int32} {a1 : Int32} {a2 : Int32} {a3 : Int32} {a4 : Int32} {a5 : Int32} {v : Int32} (hd : 1 ≤ d) (e : f_X1_turn a0 a1 a2 a3 a4 a5 = some v) : e_Run l D B d mX1_turn [.int a0, .int a1, .int a2, .int a3, .int a4, .int a5] h (.ok (some (.int v)), h) := by
  refine e_start [some (.int a0), some (.int a1), some (.int a2), some (.int a3), some (.int a4), some (.int a5)] (by decide) rfl rfl rfl (Nat.le_of_ble_eq_true rfl) (fun K hl0 hD0 hB0 hM hd0 hr => ?_)
  subst hl0 hD0 hB0 hd0
  have ho : (k_M K).1.cls = "PegBands" := by rw [hM]; rfl
  have hT : (k_M K).2.2.2.1 = some (.int) := by rw [hM]
  refine (show Sx K cX1_turn 0 [some (.int a0), some (.int a1), some (.int a2), some (.int a3), some (.int a4), some (.int a5)] [] h (f_X1_turn a0 a1 a2 a3 a4 a5) (fun w => w = v) from ?_) _ e rfl
  clear e
  unfold f_X1_turn
  refine S_iload_n (dc_X1_turn 0 rfl) rfl ?_
  refine S_iload_n (dc_X1_turn 1 rfl) rfl ?_
  refine S_isub (dc_X1_turn 2 rfl) ?_
  refine S_iload (dc_X1_turn 3 rfl) rfl ?_
  refine S_iload_n (dc_X1_turn 4 rfl) rfl ?_
  refine S_isub (dc_X1_turn 5 rfl) ?_
  refine S_imul (dc_X1_turn 6 rfl) ?_
  refine S_iload_n (dc_X1_turn 7 rfl) rfl ?_
  refine S_iload_n (dc_X1_turn 8 rfl) rfl ?_
  refine S_isub (dc_X1_turn 9 rfl) ?_
  refine S_iload (dc_X1_turn 10 rfl) rfl ?_
  refine S_iload_n (dc_X1_turn 11 rfl) rfl ?_
  refine S_isub (dc_X1_turn 12 rfl) ?_
  refine S_imul (dc_X1_turn 13 rfl) ?_
  refine S_isub (dc_X1_turn 14 rfl) ?_
  exact S_iret (dc_X1_turn 15 rfl) hT rfl (fun q => by cases q; exact hr)
abbrev cX1_areUnlike : ByteArray := prog_1_method_11_code
def yX1_areUnlike : MethodName := ⟨"PegBands", "areUnlike", "(II)Z"⟩
def tb_X1_areUnlike : List (Nat × Instr × Nat) := [(0, .iload_n 0, 1), (1, .ifCond .le 7, 3), (4, .iload_n 1, 1), (5, .ifCond .lt 11, 3), (8, .iload_n 0, 1), (9, .ifCond .ge 11, 3), (12, .iload_n 1, 1), (13, .ifCond .le 7, 3), (16, .iconst 1, 1), (17, .goto 4, 3), (20, .iconst 0, 1), (21, .ireturn, 1)]
theorem tk_X1_areUnlike : ∀ q ∈ tb_X1_areUnlike, decode cX1_areUnlike q.1 = .ok q.2 := by decide +kernel
theorem dc_X1_areUnlike (k : Nat) {pc n : Nat} {i : Instr} (h : tb_X1_areUnlike[k]? = some (pc, i, n)) : decode cX1_areUnlike pc = .ok (i, n) := tk_X1_areUnlike (pc, i, n) (List.mem_of_getElem? h)
abbrev mX1_areUnlike : e_M := (yX1_areUnlike, cX1_areUnlike, 2, some (.boolean), [])
theorem ok_X1_areUnlike : e_mok mX1_areUnlike 2 := ⟨q815, q108, by decide +kernel, fun sig h => by cases h; rfl⟩
def f_X1_areUnlike (a0 : Int32) (a1 : Int32) : Option Int32 :=
  e_bE (
      if a0 ≤ 0 then
        some (.ok ())
      else
        if a1 < 0 then
          some (.error 1)
        else
          some (.ok ())
    : Option (Except Int32 Unit)) (fun _ =>
  if 0 ≤ a0 then
    some 0
  else
    if a1 ≤ 0 then
      some 0
    else
      some 1)
set_option maxHeartbeats 4000000 in
set_option maxRecDepth 100000 in
theorem ct_X1_areUnlike {l : Launch} {D : e_D} {B : Heap} {d : Nat} {h : e_H} {a0 : Int32} {a1 : Int32} {v : Int32} (hd : 1 ≤ d) (e : f_X1_areUnlike a0 a1 = some v) : e_Run l D B d mX1_areUnlike [.int a0, .int a1] h (.ok (some (.int v)), h) := by
  refine e_start [some (.int a0), some (.int a1)] (by decide) rfl rfl rfl (Nat.le_of_ble_eq_true rfl) (fun K hl0 hD0 hB0 hM hd0 hr => ?_)
  subst hl0 hD0 hB0 hd0
  have ho : (k_M K).1.cls = "PegBands" := by rw [hM]; rfl
  have hT : (k_M K).2.2.2.1 = some (.boolean) := by rw [hM]
  refine (show Sx K cX1_areUnlike 0 [some (.int a0), some (.int a1)] [] h (f_X1_areUnlike a0 a1) (fun w => w = v) from ?_) _ e rfl
  clear e
  unfold f_X1_areUnlike
  refine S_iload_n (dc_X1_areUnlike 0 rfl) rfl ?_
  refine Sx.regKE0 (pc2 := 8) (L2 := [some (.int a0), some (.int a1)]) (st2 := []) (h2 := h) ?_ (fun Q1 hK1 hE1 => ?_)
  · skip
    refine S_iload_n (dc_X1_areUnlike 4 rfl) rfl ?_
    refine S_if_ge 20 (dc_X1_areUnlike 5 rfl) rfl (fun c9 => ?_) (fun c9 => ?_)
    · refine S_iconst_ 0 (dc_X1_areUnlike 10 rfl) rfl ?_
      exact S_iret (dc_X1_areUnlike 11 rfl) hT rfl (fun q => by cases q; exact hr)
    · refine S_iload_n (dc_X1_areUnlike 6 rfl) rfl ?_
      refine S_if_le 20 (dc_X1_areUnlike 7 rfl) rfl (fun c13 => ?_) (fun c13 => ?_)
      · refine S_iconst_ 0 (dc_X1_areUnlike 10 rfl) rfl ?_
        exact S_iret (dc_X1_areUnlike 11 rfl) hT rfl (fun q => by cases q; exact hr)
      · refine S_iconst_ 1 (dc_X1_areUnlike 8 rfl) rfl ?_
        refine S_goto 21 (dc_X1_areUnlike 9 rfl) rfl ?_
        exact S_iret (dc_X1_areUnlike 11 rfl) hT rfl (fun q => by cases q; exact hr)
  · have hK1 : Sx K cX1_areUnlike 8 [some (.int a0), some (.int a1)] [] h (some (.ok ())) Q1 := hK1
    refine S_if_le 8 (dc_X1_areUnlike 1 rfl) rfl (fun c1 => ?_) (fun c1 => ?_)
    · exact hK1
    · refine S_iload_n (dc_X1_areUnlike 2 rfl) rfl ?_
      refine S_if_lt 16 (dc_X1_areUnlike 3 rfl) rfl (fun c5 => ?_) (fun c5 => ?_)
      · refine S_iconst_ 1 (dc_X1_areUnlike 8 rfl) rfl ?_
        refine S_goto 21 (dc_X1_areUnlike 9 rfl) rfl ?_
        refine Sx.err hE1 ?_
        exact S_iret (dc_X1_areUnlike 11 rfl) hT rfl (fun q => by cases q; exact hr)
      · exact hK1
abbrev cX1_isOn : ByteArray := prog_1_method_10_code
def yX1_isOn : MethodName := ⟨"PegBands", "isOn", "(IIIIII)Z"⟩
def tb_X1_isOn : List (Nat × Instr × Nat) := [(0, .iload_n 0, 1), (1, .iload_n 1, 1), (2, .iload_n 2, 1), (3, .iload_n 3, 1), (4, .iload 4, 2), (6, .iload 5, 2), (8, .invokestatic 177, 3), (11, .ifCond .ne 43, 3), (14, .iload 4, 2), (16, .iload_n 0, 1), (17, .iload_n 2, 1), (18, .invokestatic 181, 3), (21, .iload_n 0, 1), (22, .iload_n 2, 1), (23, .invokestatic 184, 3), (26, .invokestatic 187, 3), (29, .ifCond .eq 25, 3), (32, .iload 5, 2), (34, .iload_n 1, 1), (35, .iload_n 3, 1), (36, .invokestatic 181, 3), (39, .iload_n 1, 1), (40, .iload_n 3, 1), (41, .invokestatic 184, 3), (44, .invokestatic 187, 3), (47, .ifCond .eq 7, 3), (50, .iconst 1, 1), (51, .goto 4, 3), (54, .iconst 0, 1), (55, .ireturn, 1)]
theorem tk_X1_isOn : ∀ q ∈ tb_X1_isOn, decode cX1_isOn q.1 = .ok q.2 := by decide +kernel
theorem dc_X1_isOn (k : Nat) {pc n : Nat} {i : Instr} (h : tb_X1_isOn[k]? = some (pc, i, n)) : decode cX1_isOn pc = .ok (i, n) := tk_X1_isOn (pc, i, n) (List.mem_of_getElem? h)
abbrev mX1_isOn : e_M := (yX1_isOn, cX1_isOn, 6, some (.boolean), [])
theorem ok_X1_isOn : e_mok mX1_isOn 6 := ⟨q818, q108, by decide +kernel, fun sig h => by cases h; rfl⟩
def f_X1_isOn (a0 : Int32) (a1 : Int32) (a2 : Int32) (a3 : Int32) (a4 : Int32) (a5 : Int32) : Option Int32 :=
  Option.bind (f_X1_turn a0 a1 a2 a3 a4 a5) (fun x8 =>
  if x8 = 0 then
    Option.bind (f_X1_isIn a4 (if a2 < a0 then a2 else a0) (if a0 < a2 then a2 else a0)) (fun x26 =>
    if x26 = 0 then
      some 0
    else
      Option.bind (f_X1_isIn a5 (if a3 < a1 then a3 else a1) (if a1 < a3 then a3 else a1)) (fun x44 =>
      if x44 = 0 then
        some 0
      else
        some 1))
  else
    some 0)
set_option maxHeartbeats 4000000 in
set_option maxRecDepth 100000 in
theorem ct_X1_isOn {l : Launch} {D : e_D} {B : Heap} {d : Nat} {h : e_H} {a0 : Int32} {a1 : Int32} {a2 : Int32} {a3 : Int32} {a4 : Int32} {a5 : Int32} {v : Int32} (hd : 2 ≤ d) (e : f_X1_isOn a0 a1 a2 a3 a4 a5 = some v) : e_Run l D B d mX1_isOn [.int a0, .int a1, .int a2, .int a3, .int a4, .int a5] h (.ok (some (.int v)), h) := by
  refine e_start [some (.int a0), some (.int a1), some (.int a2), some (.int a3), some (.int a4), some (.int a5)] (by decide) rfl rfl rfl (Nat.le_of_ble_eq_true rfl) (fun K hl0 hD0 hB0 hM hd0 hr => ?_)
  subst hl0 hD0 hB0 hd0
  have ho : (k_M K).1.cls = "PegBands" := by rw [hM]; rfl
  have hT : (k_M K).2.2.2.1 = some (.boolean) := by rw [hM]
  refine (show Sx K cX1_isOn 0 [some (.int a0), some (.int a1), some (.int a2), some (.int a3), some (.int a4), some (.int a5)] [] h (f_X1_isOn a0 a1 a2 a3 a4 a5) (fun w => w = v) from ?_) _ e rfl
  clear e
  unfold f_X1_isOn
  refine S_iload_n (dc_X1_isOn 0 rfl) rfl ?_
  refine S_iload_n (dc_X1_isOn 1 rfl) rfl ?_
  refine S_iload_n (dc_X1_isOn 2 rfl) rfl ?_
  refine S_iload_n (dc_X1_isOn 3 rfl) rfl ?_
  refine S_iload (dc_X1_isOn 4 rfl) rfl ?_
  refine S_iload (dc_X1_isOn 5 rfl) rfl ?_
  refine S_roI (d := k_d K - 1) (e_callS (As := [.int a0, .int a1, .int a2, .int a3, .int a4, .int a5]) (rest := []) ok_X1_turn rfl (Nat.le_of_ble_eq_true rfl) (dc_X1_isOn 6 rfl) ho q812 q803 rfl (Nat.le_of_ble_eq_true rfl)) (by omega) (fun _ e => ct_X1_turn (by omega) e) (fun x8 e8 => ?_)
  refine S_if_ne 54 (dc_X1_isOn 7 rfl) rfl (fun c11 => ?_) (fun c11 => ?_)
  · refine S_iconst_ 0 (dc_X1_isOn 28 rfl) rfl ?_
    exact S_iret (dc_X1_isOn 29 rfl) hT rfl (fun q => by cases q; exact hr)
  · refine S_iload (dc_X1_isOn 8 rfl) rfl ?_
    refine S_iload_n (dc_X1_isOn 9 rfl) rfl ?_
    refine S_iload_n (dc_X1_isOn 10 rfl) rfl ?_
    refine S_mmin (dc_X1_isOn 11 rfl) ho q819 (by omega) (Nat.le_of_ble_eq_true rfl) ?_
    refine S_iload_n (dc_X1_isOn 12 rfl) rfl ?_
    refine S_iload_n (dc_X1_isOn 13 rfl) rfl ?_
    refine S_mmax (dc_X1_isOn 14 rfl) ho q822 (by omega) (Nat.le_of_ble_eq_true rfl) ?_
    refine S_roI (d := k_d K - 1) (e_callS (As := [.int a4, .int (if a2 < a0 then a2 else a0), .int (if a0 < a2 then a2 else a0)]) (rest := []) ok_X1_isIn rfl (Nat.le_of_ble_eq_true rfl) (dc_X1_isOn 15 rfl) ho q825 q616 rfl (Nat.le_of_ble_eq_true rfl)) (by omega) (fun _ e => ct_X1_isIn (by omega) e) (fun x26 e26 => ?_)
    refine S_if_eq 54 (dc_X1_isOn 16 rfl) rfl (fun c29 => ?_) (fun c29 => ?_)
    · refine S_iconst_ 0 (dc_X1_isOn 28 rfl) rfl ?_
      exact S_iret (dc_X1_isOn 29 rfl) hT rfl (fun q => by cases q; exact hr)
    · refine S_iload (dc_X1_isOn 17 rfl) rfl ?_
      refine S_iload_n (dc_X1_isOn 18 rfl) rfl ?_
      refine S_iload_n (dc_X1_isOn 19 rfl) rfl ?_
      refine S_mmin (dc_X1_isOn 20 rfl) ho q819 (by omega) (Nat.le_of_ble_eq_true rfl) ?_
      refine S_iload_n (dc_X1_isOn 21 rfl) rfl ?_
      refine S_iload_n (dc_X1_isOn 22 rfl) rfl ?_
      refine S_mmax (dc_X1_isOn 23 rfl) ho q822 (by omega) (Nat.le_of_ble_eq_true rfl) ?_
      refine S_roI (d := k_d K - 1) (e_callS (As := [.int a5, .int (if a3 < a1 then a3 else a1), .int (if a1 < a3 then a3 else a1)]) (rest := []) ok_X1_isIn rfl (Nat.le_of_ble_eq_true rfl) (dc_X1_isOn 24 rfl) ho q825 q616 rfl (Nat.le_of_ble_eq_true rfl)) (by omega) (fun _ e => ct_X1_isIn (by omega) e) (fun x44 e44 => ?_)
      refine S_if_eq 54 (dc_X1_isOn 25 rfl) rfl (fun c47 => ?_) (fun c47 => ?_)
      · refine S_iconst_ 0 (dc_X1_isOn 28 rfl) rfl ?_
        exact S_iret (dc_X1_isOn 29 rfl) hT rfl (fun q => by cases q; exact hr)
      · refine S_iconst_ 1 (dc_X1_isOn 26 rfl) rfl ?_
        refine S_goto 55 (dc_X1_isOn 27 rfl) rfl ?_
        exact S_iret (dc_X1_isOn 29 rfl) hT rfl (fun q => by cases q; exact hr)
abbrev cX1_meets : ByteArray := prog_1_method_12_code
def yX1_meets : MethodName := ⟨"PegBands", "meets", "(IIIIIIII)I"⟩
def tb_X1_meets : List (Nat × Instr × Nat) := [(0, .iload_n 0, 1), (1, .iload_n 1, 1), (2, .iload_n 2, 1), (3, .iload_n 3, 1), (4, .iload 4, 2), (6, .iload 5, 2), (8, .invokestatic 177, 3), (11, .iload_n 0, 1), (12, .iload_n 1, 1), (13, .iload_n 2, 1), (14, .iload_n 3, 1), (15, .iload 6, 2), (17, .iload 7, 2), (19, .invokestatic 177, 3), (22, .invokestatic 191, 3), (25, .ifCond .eq 37, 3), (28, .iload 4, 2), (30, .iload 5, 2), (32, .iload 6, 2), (34, .iload 7, 2), (36, .iload_n 0, 1), (37, .iload_n 1, 1), (38, .invokestatic 177, 3), (41, .iload 4, 2), (43, .iload 5, 2), (45, .iload 6, 2), (47, .iload 7, 2), (49, .iload_n 2, 1), (50, .iload_n 3, 1), (51, .invokestatic 177, 3), (54, .invokestatic 191, 3), (57, .ifCond .eq 5, 3), (60, .iconst 1, 1), (61, .ireturn, 1), (62, .iload_n 0, 1), (63, .iload_n 1, 1), (64, .iload_n 2, 1), (65, .iload_n 3, 1), (66, .iload 4, 2), (68, .iload 5, 2), (70, .invokestatic 195, 3), (73, .ifCond .ne 49, 3), (76, .iload_n 0, 1), (77, .iload_n 1, 1), (78, .iload_n 2, 1), (79, .iload_n 3, 1), (80, .iload 6, 2), (82, .iload 7, 2), (84, .invokestatic 195, 3), (87, .ifCond .ne 35, 3), (90, .iload 4, 2), (92, .iload 5, 2), (94, .iload 6, 2), (96, .iload 7, 2), (98, .iload_n 0, 1), (99, .iload_n 1, 1), (100, .invokestatic 195, 3), (103, .ifCond .ne 19, 3), (106, .iload 4, 2), (108, .iload 5, 2), (110, .iload 6, 2), (112, .iload 7, 2), (114, .iload_n 2, 1), (115, .iload_n 3, 1), (116, .invokestatic 195, 3), (119, .ifCond .eq 7, 3), (122, .iconst 2, 1), (123, .goto 4, 3), (126, .iconst 0, 1), (127, .ireturn, 1)]
theorem tk_X1_meets : ∀ q ∈ tb_X1_meets, decode cX1_meets q.1 = .ok q.2 := by decide +kernel
theorem dc_X1_meets (k : Nat) {pc n : Nat} {i : Instr} (h : tb_X1_meets[k]? = some (pc, i, n)) : decode cX1_meets pc = .ok (i, n) := tk_X1_meets (pc, i, n) (List.mem_of_getElem? h)
abbrev mX1_meets : e_M := (yX1_meets, cX1_meets, 8, some (.int), [])
theorem ok_X1_meets : e_mok mX1_meets 8 := ⟨q811, q108, by decide +kernel, fun sig h => by cases h; rfl⟩
def f_X1_meets (a0 : Int32) (a1 : Int32) (a2 : Int32) (a3 : Int32) (a4 : Int32) (a5 : Int32) (a6 : Int32) (a7 : Int32) : Option Int32 :=
  Option.bind (f_X1_turn a0 a1 a2 a3 a4 a5) (fun x8 =>
  Option.bind (f_X1_turn a0 a1 a2 a3 a6 a7) (fun x19 =>
  Option.bind (f_X1_areUnlike x8 x19) (fun x22 =>
  e_bE (
      if x22 = 0 then
        some (.ok ())
      else
        Option.bind (f_X1_turn a4 a5 a6 a7 a0 a1) (fun x38 =>
        Option.bind (f_X1_turn a4 a5 a6 a7 a2 a3) (fun x51 =>
        Option.bind (f_X1_areUnlike x38 x51) (fun x54 =>
        if x54 = 0 then
          some (.ok ())
        else
          some (.error 1))))
    : Option (Except Int32 Unit)) (fun _ =>
  Option.bind (f_X1_isOn a0 a1 a2 a3 a4 a5) (fun x70 =>
  if x70 = 0 then
    Option.bind (f_X1_isOn a0 a1 a2 a3 a6 a7) (fun x84 =>
    if x84 = 0 then
      Option.bind (f_X1_isOn a4 a5 a6 a7 a0 a1) (fun x100 =>
      if x100 = 0 then
        Option.bind (f_X1_isOn a4 a5 a6 a7 a2 a3) (fun x116 =>
        if x116 = 0 then
          some 0
        else
          some 2)
      else
        some 2)
    else
      some 2)
  else
    some 2)))))
set_option maxHeartbeats 4000000 in
set_option maxRecDepth 100000 in
theorem ct_X1_meets {l : Launch} {D : e_D} {B : Heap} {d : Nat} {h : e_H} {a0 : Int32} {a1 : Int32} {a2 : Int32} {a3 : Int32} {a4 : Int32} {a5 : Int32} {a6 : Int32} {a7 : Int32} {v : Int32} (hd : 3 ≤ d) (e : f_X1_meets a0 a1 a2 a3 a4 a5 a6 a7 = some v) : e_Run l D B d mX1_meets [.int a0, .int a1, .int a2, .int a3, .int a4, .int a5, .int a6, .int a7] h (.ok (some (.int v)), h) := by
  refine e_start [some (.int a0), some (.int a1), some (.int a2), some (.int a3), some (.int a4), some (.int a5), some (.int a6), some (.int a7)] (by decide) rfl rfl rfl (Nat.le_of_ble_eq_true rfl) (fun K hl0 hD0 hB0 hM hd0 hr => ?_)
  subst hl0 hD0 hB0 hd0
  have ho : (k_M K).1.cls = "PegBands" := by rw [hM]; rfl
  have hT : (k_M K).2.2.2.1 = some (.int) := by rw [hM]
  refine (show Sx K cX1_meets 0 [some (.int a0), some (.int a1), some (.int a2), some (.int a3), some (.int a4), some (.int a5), some (.int a6), some (.int a7)] [] h (f_X1_meets a0 a1 a2 a3 a4 a5 a6 a7) (fun w => w = v) from ?_) _ e rfl
  clear e
  unfold f_X1_meets
  refine S_iload_n (dc_X1_meets 0 rfl) rfl ?_
  refine S_iload_n (dc_X1_meets 1 rfl) rfl ?_
  refine S_iload_n (dc_X1_meets 2 rfl) rfl ?_
  refine S_iload_n (dc_X1_meets 3 rfl) rfl ?_
  refine S_iload (dc_X1_meets 4 rfl) rfl ?_
  refine S_iload (dc_X1_meets 5 rfl) rfl ?_
  refine S_roI (d := k_d K - 1) (e_callS (As := [.int a0, .int a1, .int a2, .int a3, .int a4, .int a5]) (rest := []) ok_X1_turn rfl (Nat.le_of_ble_eq_true rfl) (dc_X1_meets 6 rfl) ho q812 q803 rfl (Nat.le_of_ble_eq_true rfl)) (by omega) (fun _ e => ct_X1_turn (by omega) e) (fun x8 e8 => ?_)
  refine S_iload_n (dc_X1_meets 7 rfl) rfl ?_
  refine S_iload_n (dc_X1_meets 8 rfl) rfl ?_
  refine S_iload_n (dc_X1_meets 9 rfl) rfl ?_
  refine S_iload_n (dc_X1_meets 10 rfl) rfl ?_
  refine S_iload (dc_X1_meets 11 rfl) rfl ?_
  refine S_iload (dc_X1_meets 12 rfl) rfl ?_
  refine S_roI (d := k_d K - 1) (e_callS (As := [.int a0, .int a1, .int a2, .int a3, .int a6, .int a7]) (rest := [.int x8]) ok_X1_turn rfl (Nat.le_of_ble_eq_true rfl) (dc_X1_meets 13 rfl) ho q812 q803 rfl (Nat.le_of_ble_eq_true rfl)) (by omega) (fun _ e => ct_X1_turn (by omega) e) (fun x19 e19 => ?_)
  refine S_roI (d := k_d K - 1) (e_callS (As := [.int x8, .int x19]) (rest := []) ok_X1_areUnlike rfl (Nat.le_of_ble_eq_true rfl) (dc_X1_meets 14 rfl) ho q813 q814 rfl (Nat.le_of_ble_eq_true rfl)) (by omega) (fun _ e => ct_X1_areUnlike (by omega) e) (fun x22 e22 => ?_)
  refine Sx.regKE0 (pc2 := 62) (L2 := [some (.int a0), some (.int a1), some (.int a2), some (.int a3), some (.int a4), some (.int a5), some (.int a6), some (.int a7)]) (st2 := []) (h2 := h) ?_ (fun Q1 hK1 hE1 => ?_)
  · skip
    refine S_iload_n (dc_X1_meets 34 rfl) rfl ?_
    refine S_iload_n (dc_X1_meets 35 rfl) rfl ?_
    refine S_iload_n (dc_X1_meets 36 rfl) rfl ?_
    refine S_iload_n (dc_X1_meets 37 rfl) rfl ?_
    refine S_iload (dc_X1_meets 38 rfl) rfl ?_
    refine S_iload (dc_X1_meets 39 rfl) rfl ?_
    refine S_roI (d := k_d K - 1) (e_callS (As := [.int a0, .int a1, .int a2, .int a3, .int a4, .int a5]) (rest := []) ok_X1_isOn rfl (Nat.le_of_ble_eq_true rfl) (dc_X1_meets 40 rfl) ho q816 q817 rfl (Nat.le_of_ble_eq_true rfl)) (by omega) (fun _ e => ct_X1_isOn (by omega) e) (fun x70 e70 => ?_)
    refine S_if_ne 122 (dc_X1_meets 41 rfl) rfl (fun c73 => ?_) (fun c73 => ?_)
    · refine S_iconst_ 2 (dc_X1_meets 66 rfl) rfl ?_
      refine S_goto 127 (dc_X1_meets 67 rfl) rfl ?_
      exact S_iret (dc_X1_meets 69 rfl) hT rfl (fun q => by cases q; exact hr)
    · refine S_iload_n (dc_X1_meets 42 rfl) rfl ?_
      refine S_iload_n (dc_X1_meets 43 rfl) rfl ?_
      refine S_iload_n (dc_X1_meets 44 rfl) rfl ?_
      refine S_iload_n (dc_X1_meets 45 rfl) rfl ?_
      refine S_iload (dc_X1_meets 46 rfl) rfl ?_
      refine S_iload (dc_X1_meets 47 rfl) rfl ?_
      refine S_roI (d := k_d K - 1) (e_callS (As := [.int a0, .int a1, .int a2, .int a3, .int a6, .int a7]) (rest := []) ok_X1_isOn rfl (Nat.le_of_ble_eq_true rfl) (dc_X1_meets 48 rfl) ho q816 q817 rfl (Nat.le_of_ble_eq_true rfl)) (by omega) (fun _ e => ct_X1_isOn (by omega) e) (fun x84 e84 => ?_)
      refine S_if_ne 122 (dc_X1_meets 49 rfl) rfl (fun c87 => ?_) (fun c87 => ?_)
      · refine S_iconst_ 2 (dc_X1_meets 66 rfl) rfl ?_
        refine S_goto 127 (dc_X1_meets 67 rfl) rfl ?_
        exact S_iret (dc_X1_meets 69 rfl) hT rfl (fun q => by cases q; exact hr)
      · refine S_iload (dc_X1_meets 50 rfl) rfl ?_
        refine S_iload (dc_X1_meets 51 rfl) rfl ?_
        refine S_iload (dc_X1_meets 52 rfl) rfl ?_
        refine S_iload (dc_X1_meets 53 rfl) rfl ?_
        refine S_iload_n (dc_X1_meets 54 rfl) rfl ?_
        refine S_iload_n (dc_X1_meets 55 rfl) rfl ?_
        refine S_roI (d := k_d K - 1) (e_callS (As := [.int a4, .int a5, .int a6, .int a7, .int a0, .int a1]) (rest := []) ok_X1_isOn rfl (Nat.le_of_ble_eq_true rfl) (dc_X1_meets 56 rfl) ho q816 q817 rfl (Nat.le_of_ble_eq_true rfl)) (by omega) (fun _ e => ct_X1_isOn (by omega) e) (fun x100 e100 => ?_)
        refine S_if_ne 122 (dc_X1_meets 57 rfl) rfl (fun c103 => ?_) (fun c103 => ?_)
        · refine S_iconst_ 2 (dc_X1_meets 66 rfl) rfl ?_
          refine S_goto 127 (dc_X1_meets 67 rfl) rfl ?_
          exact S_iret (dc_X1_meets 69 rfl) hT rfl (fun q => by cases q; exact hr)
        · refine S_iload (dc_X1_meets 58 rfl) rfl ?_
          refine S_iload (dc_X1_meets 59 rfl) rfl ?_
          refine S_iload (dc_X1_meets 60 rfl) rfl ?_
          refine S_iload (dc_X1_meets 61 rfl) rfl ?_
          refine S_iload_n (dc_X1_meets 62 rfl) rfl ?_
          refine S_iload_n (dc_X1_meets 63 rfl) rfl ?_
          refine S_roI (d := k_d K - 1) (e_callS (As := [.int a4, .int a5, .int a6, .int a7, .int a2, .int a3]) (rest := []) ok_X1_isOn rfl (Nat.le_of_ble_eq_true rfl) (dc_X1_meets 64 rfl) ho q816 q817 rfl (Nat.le_of_ble_eq_true rfl)) (by omega) (fun _ e => ct_X1_isOn (by omega) e) (fun x116 e116 => ?_)
          refine S_if_eq 126 (dc_X1_meets 65 rfl) rfl (fun c119 => ?_) (fun c119 => ?_)
          · refine S_iconst_ 0 (dc_X1_meets 68 rfl) rfl ?_
            exact S_iret (dc_X1_meets 69 rfl) hT rfl (fun q => by cases q; exact hr)
          · refine S_iconst_ 2 (dc_X1_meets 66 rfl) rfl ?_
            refine S_goto 127 (dc_X1_meets 67 rfl) rfl ?_
            exact S_iret (dc_X1_meets 69 rfl) hT rfl (fun q => by cases q; exact hr)
  · have hK1 : Sx K cX1_meets 62 [some (.int a0), some (.int a1), some (.int a2), some (.int a3), some (.int a4), some (.int a5), some (.int a6), some (.int a7)] [] h (some (.ok ())) Q1 := hK1
    refine S_if_eq 62 (dc_X1_meets 15 rfl) rfl (fun c25 => ?_) (fun c25 => ?_)
    · exact hK1
    · refine S_iload (dc_X1_meets 16 rfl) rfl ?_
      refine S_iload (dc_X1_meets 17 rfl) rfl ?_
      refine S_iload (dc_X1_meets 18 rfl) rfl ?_
      refine S_iload (dc_X1_meets 19 rfl) rfl ?_
      refine S_iload_n (dc_X1_meets 20 rfl) rfl ?_
      refine S_iload_n (dc_X1_meets 21 rfl) rfl ?_
      refine S_roI (d := k_d K - 1) (e_callS (As := [.int a4, .int a5, .int a6, .int a7, .int a0, .int a1]) (rest := []) ok_X1_turn rfl (Nat.le_of_ble_eq_true rfl) (dc_X1_meets 22 rfl) ho q812 q803 rfl (Nat.le_of_ble_eq_true rfl)) (by omega) (fun _ e => ct_X1_turn (by omega) e) (fun x38 e38 => ?_)
      refine S_iload (dc_X1_meets 23 rfl) rfl ?_
      refine S_iload (dc_X1_meets 24 rfl) rfl ?_
      refine S_iload (dc_X1_meets 25 rfl) rfl ?_
      refine S_iload (dc_X1_meets 26 rfl) rfl ?_
      refine S_iload_n (dc_X1_meets 27 rfl) rfl ?_
      refine S_iload_n (dc_X1_meets 28 rfl) rfl ?_
      refine S_roI (d := k_d K - 1) (e_callS (As := [.int a4, .int a5, .int a6, .int a7, .int a2, .int a3]) (rest := [.int x38]) ok_X1_turn rfl (Nat.le_of_ble_eq_true rfl) (dc_X1_meets 29 rfl) ho q812 q803 rfl (Nat.le_of_ble_eq_true rfl)) (by omega) (fun _ e => ct_X1_turn (by omega) e) (fun x51 e51 => ?_)
      refine S_roI (d := k_d K - 1) (e_callS (As := [.int x38, .int x51]) (rest := []) ok_X1_areUnlike rfl (Nat.le_of_ble_eq_true rfl) (dc_X1_meets 30 rfl) ho q813 q814 rfl (Nat.le_of_ble_eq_true rfl)) (by omega) (fun _ e => ct_X1_areUnlike (by omega) e) (fun x54 e54 => ?_)
      refine S_if_eq 62 (dc_X1_meets 31 rfl) rfl (fun c57 => ?_) (fun c57 => ?_)
      · exact hK1
      · refine S_iconst_ 1 (dc_X1_meets 32 rfl) rfl ?_
        refine Sx.err hE1 ?_
        exact S_iret (dc_X1_meets 33 rfl) hT rfl (fun q => by cases q; exact hr)
abbrev cX8_meeting : ByteArray := prog_3_method_15_code
def yX8_meeting : MethodName := ⟨"PegBands$Band", "meeting", "(ILPegBands$Band;I)I"⟩
def tb_X8_meeting : List (Nat × Instr × Nat) := [(0, .aload_n 0, 1), (1, .getfield 9, 3), (4, .iload_n 1, 1), (5, .iaload, 1), (6, .aload_n 0, 1), (7, .getfield 15, 3), (10, .iload_n 1, 1), (11, .iaload, 1), (12, .aload_n 0, 1), (13, .getfield 9, 3), (16, .aload_n 0, 1), (17, .iload_n 1, 1), (18, .invokevirtual 40, 3), (21, .iaload, 1), (22, .aload_n 0, 1), (23, .getfield 15, 3), (26, .aload_n 0, 1), (27, .iload_n 1, 1), (28, .invokevirtual 40, 3), (31, .iaload, 1), (32, .aload_n 2, 1), (33, .getfield 9, 3), (36, .iload_n 3, 1), (37, .iaload, 1), (38, .aload_n 2, 1), (39, .getfield 15, 3), (42, .iload_n 3, 1), (43, .iaload, 1), (44, .aload_n 2, 1), (45, .getfield 9, 3), (48, .aload_n 2, 1), (49, .iload_n 3, 1), (50, .invokevirtual 40, 3), (53, .iaload, 1), (54, .aload_n 2, 1), (55, .getfield 15, 3), (58, .aload_n 2, 1), (59, .iload_n 3, 1), (60, .invokevirtual 40, 3), (63, .iaload, 1), (64, .invokestatic 74, 3), (67, .ireturn, 1)]
theorem tk_X8_meeting : ∀ q ∈ tb_X8_meeting, decode cX8_meeting q.1 = .ok q.2 := by decide +kernel
theorem dc_X8_meeting (k : Nat) {pc n : Nat} {i : Instr} (h : tb_X8_meeting[k]? = some (pc, i, n)) : decode cX8_meeting pc = .ok (i, n) := tk_X8_meeting (pc, i, n) (List.mem_of_getElem? h)
abbrev mX8_meeting : e_M := (yX8_meeting, cX8_meeting, 4, some (.int), [])
theorem ok_X8_meeting : e_mok mX8_meeting 3 := ⟨q808, q117, by decide +kernel, fun sig h => by cases h; rfl⟩
def f_X8_meeting (h : e_H) (a0 : Nat) (a1 : Int32) (a2 : Nat) (a3 : Int32) : Option Int32 :=
  Option.bind (e_fA h a0 6 0) (fun x1 =>
  Option.bind (e_aI h x1 0 a1) (fun x5 =>
  Option.bind (e_fA h a0 6 1) (fun x7 =>
  Option.bind (e_aI h x7 0 a1) (fun x11 =>
  Option.bind (e_fA h a0 6 0) (fun x13 =>
  Option.bind (f_X8_next h a0 a1) (fun x18 =>
  Option.bind (e_aI h x13 0 x18) (fun x21 =>
  Option.bind (e_fA h a0 6 1) (fun x23 =>
  Option.bind (f_X8_next h a0 a1) (fun x28 =>
  Option.bind (e_aI h x23 0 x28) (fun x31 =>
  Option.bind (e_fA h a2 6 0) (fun x33 =>
  Option.bind (e_aI h x33 0 a3) (fun x37 =>
  Option.bind (e_fA h a2 6 1) (fun x39 =>
  Option.bind (e_aI h x39 0 a3) (fun x43 =>
  Option.bind (e_fA h a2 6 0) (fun x45 =>
  Option.bind (f_X8_next h a2 a3) (fun x50 =>
  Option.bind (e_aI h x45 0 x50) (fun x53 =>
  Option.bind (e_fA h a2 6 1) (fun x55 =>
  Option.bind (f_X8_next h a2 a3) (fun x60 =>
  Option.bind (e_aI h x55 0 x60) (fun x63 =>
  Option.bind (f_X1_meets x5 x11 x21 x31 x37 x43 x53 x63) (fun x64 =>
  some x64)))))))))))))))))))))
set_option maxHeartbeats 4000000 in
set_option maxRecDepth 100000 in
theorem ct_X8_meeting {l : Launch} {D : e_D} {B : Heap} {d : Nat} {h : e_H} {a0 : Nat} {a1 : Int32} {a2 : Nat} {a3 : Int32} {v : Int32} (hd : 4 ≤ d) (e : f_X8_meeting h a0 a1 a2 a3 = some v) : e_Run l D B d mX8_meeting [.ref a0, .int a1, .ref a2, .int a3] h (.ok (some (.int v)), h) := by
  refine e_start [some (.ref a0), some (.int a1), some (.ref a2), some (.int a3)] (by decide) rfl rfl rfl (Nat.le_of_ble_eq_true rfl) (fun K hl0 hD0 hB0 hM hd0 hr => ?_)
  subst hl0 hD0 hB0 hd0
  have ho : (k_M K).1.cls = "PegBands$Band" := by rw [hM]; rfl
  have hT : (k_M K).2.2.2.1 = some (.int) := by rw [hM]
  refine (show Sx K cX8_meeting 0 [some (.ref a0), some (.int a1), some (.ref a2), some (.int a3)] [] h (f_X8_meeting h a0 a1 a2 a3) (fun w => w = v) from ?_) _ e rfl
  clear e
  unfold f_X8_meeting
  refine S_aload_n (dc_X8_meeting 0 rfl) rfl ?_
  refine S_getA (dc_X8_meeting 1 rfl) ho fl_X8_9_6_0 (fun _ _ => rfl) (fun x1 e1 => ?_)
  refine S_iload_n (dc_X8_meeting 2 rfl) rfl ?_
  refine S_iald (dc_X8_meeting 3 rfl) (fun x5 e5 => ?_)
  refine S_aload_n (dc_X8_meeting 4 rfl) rfl ?_
  refine S_getA (dc_X8_meeting 5 rfl) ho fl_X8_15_6_1 (fun _ _ => rfl) (fun x7 e7 => ?_)
  refine S_iload_n (dc_X8_meeting 6 rfl) rfl ?_
  refine S_iald (dc_X8_meeting 7 rfl) (fun x11 e11 => ?_)
  refine S_aload_n (dc_X8_meeting 8 rfl) rfl ?_
  refine S_getA (dc_X8_meeting 9 rfl) ho fl_X8_9_6_0 (fun _ _ => rfl) (fun x13 e13 => ?_)
  refine S_aload_n (dc_X8_meeting 10 rfl) rfl ?_
  refine S_iload_n (dc_X8_meeting 11 rfl) rfl ?_
  refine S_roI (d := k_d K - 1) (e_callV (b := a0) (As := [.int a1]) (rest := [.ref x13, .int x11, .int x5]) ok_X8_next rfl (Nat.le_of_ble_eq_true rfl) (dc_X8_meeting 12 rfl) ho q798 q799 (show e_cl[6]? = some (RX8, TX8, 4) from rfl) (e_sel.of q800) (e_fA_of e1).1 rfl (Nat.le_of_ble_eq_true rfl)) (by omega) (fun _ e => ct_X8_next (by omega) e) (fun x18 e18 => ?_)
  refine S_iald (dc_X8_meeting 13 rfl) (fun x21 e21 => ?_)
  refine S_aload_n (dc_X8_meeting 14 rfl) rfl ?_
  refine S_getA (dc_X8_meeting 15 rfl) ho fl_X8_15_6_1 (fun _ _ => rfl) (fun x23 e23 => ?_)
  refine S_aload_n (dc_X8_meeting 16 rfl) rfl ?_
  refine S_iload_n (dc_X8_meeting 17 rfl) rfl ?_
  refine S_roI (d := k_d K - 1) (e_callV (b := a0) (As := [.int a1]) (rest := [.ref x23, .int x21, .int x11, .int x5]) ok_X8_next rfl (Nat.le_of_ble_eq_true rfl) (dc_X8_meeting 18 rfl) ho q798 q799 (show e_cl[6]? = some (RX8, TX8, 4) from rfl) (e_sel.of q800) (e_fA_of e1).1 rfl (Nat.le_of_ble_eq_true rfl)) (by omega) (fun _ e => ct_X8_next (by omega) e) (fun x28 e28 => ?_)
  refine S_iald (dc_X8_meeting 19 rfl) (fun x31 e31 => ?_)
  refine S_aload_n (dc_X8_meeting 20 rfl) rfl ?_
  refine S_getA (dc_X8_meeting 21 rfl) ho fl_X8_9_6_0 (fun _ _ => rfl) (fun x33 e33 => ?_)
  refine S_iload_n (dc_X8_meeting 22 rfl) rfl ?_
  refine S_iald (dc_X8_meeting 23 rfl) (fun x37 e37 => ?_)
  refine S_aload_n (dc_X8_meeting 24 rfl) rfl ?_
  refine S_getA (dc_X8_meeting 25 rfl) ho fl_X8_15_6_1 (fun _ _ => rfl) (fun x39 e39 => ?_)
  refine S_iload_n (dc_X8_meeting 26 rfl) rfl ?_
  refine S_iald (dc_X8_meeting 27 rfl) (fun x43 e43 => ?_)
  refine S_aload_n (dc_X8_meeting 28 rfl) rfl ?_
  refine S_getA (dc_X8_meeting 29 rfl) ho fl_X8_9_6_0 (fun _ _ => rfl) (fun x45 e45 => ?_)
  refine S_aload_n (dc_X8_meeting 30 rfl) rfl ?_
  refine S_iload_n (dc_X8_meeting 31 rfl) rfl ?_
  refine S_roI (d := k_d K - 1) (e_callV (b := a2) (As := [.int a3]) (rest := [.ref x45, .int x43, .int x37, .int x31, .int x21, .int x11, .int x5]) ok_X8_next rfl (Nat.le_of_ble_eq_true rfl) (dc_X8_meeting 32 rfl) ho q798 q799 (show e_cl[6]? = some (RX8, TX8, 4) from rfl) (e_sel.of q800) (e_fA_of e33).1 rfl (Nat.le_of_ble_eq_true rfl)) (by omega) (fun _ e => ct_X8_next (by omega) e) (fun x50 e50 => ?_)
  refine S_iald (dc_X8_meeting 33 rfl) (fun x53 e53 => ?_)
  refine S_aload_n (dc_X8_meeting 34 rfl) rfl ?_
  refine S_getA (dc_X8_meeting 35 rfl) ho fl_X8_15_6_1 (fun _ _ => rfl) (fun x55 e55 => ?_)
  refine S_aload_n (dc_X8_meeting 36 rfl) rfl ?_
  refine S_iload_n (dc_X8_meeting 37 rfl) rfl ?_
  refine S_roI (d := k_d K - 1) (e_callV (b := a2) (As := [.int a3]) (rest := [.ref x55, .int x53, .int x43, .int x37, .int x31, .int x21, .int x11, .int x5]) ok_X8_next rfl (Nat.le_of_ble_eq_true rfl) (dc_X8_meeting 38 rfl) ho q798 q799 (show e_cl[6]? = some (RX8, TX8, 4) from rfl) (e_sel.of q800) (e_fA_of e33).1 rfl (Nat.le_of_ble_eq_true rfl)) (by omega) (fun _ e => ct_X8_next (by omega) e) (fun x60 e60 => ?_)
  refine S_iald (dc_X8_meeting 39 rfl) (fun x63 e63 => ?_)
  refine S_roI (d := k_d K - 1) (e_callSN (As := [.int x5, .int x11, .int x21, .int x31, .int x37, .int x43, .int x53, .int x63]) (rest := []) ok_X1_meets rfl (Nat.le_of_ble_eq_true rfl) (dc_X8_meeting 40 rfl) ho q809 q810 rfl (Nat.le_of_ble_eq_true rfl)) (by omega) (fun _ e => ct_X1_meets (by omega) e) (fun x64 e64 => ?_)
  exact S_iret (dc_X8_meeting 41 rfl) hT rfl (fun q => by cases q; exact hr)
abbrev cX8_meetings : ByteArray := prog_3_method_16_code
def yX8_meetings : MethodName := ⟨"PegBands$Band", "meetings", "(LPegBands$Band;I)I"⟩
def tb_X8_meetings : List (Nat × Instr × Nat) := [(0, .iconst 0, 1), (1, .istore_n 3, 1), (2, .iconst 0, 1), (3, .istore 4, 2), (5, .iload 4, 2), (7, .aload_n 0, 1), (8, .getfield 28, 3), (11, .if_icmp .ge 48, 3), (14, .iconst 0, 1), (15, .istore 5, 2), (17, .iload 5, 2), (19, .aload_n 1, 1), (20, .getfield 28, 3), (23, .if_icmp .ge 30, 3), (26, .iload_n 3, 1), (27, .aload_n 0, 1), (28, .iload 4, 2), (30, .aload_n 1, 1), (31, .iload 5, 2), (33, .invokevirtual 78, 3), (36, .iload_n 2, 1), (37, .if_icmp .ne 7, 3), (40, .iconst 1, 1), (41, .goto 4, 3), (44, .iconst 0, 1), (45, .iadd, 1), (46, .istore_n 3, 1), (47, .iinc 5 1, 3), (50, .goto (-33), 3), (53, .iinc 4 1, 3), (56, .goto (-51), 3), (59, .iload_n 3, 1), (60, .ireturn, 1)]
theorem tk_X8_meetings : ∀ q ∈ tb_X8_meetings, decode cX8_meetings q.1 = .ok q.2 := by decide +kernel
theorem dc_X8_meetings (k : Nat) {pc n : Nat} {i : Instr} (h : tb_X8_meetings[k]? = some (pc, i, n)) : decode cX8_meetings pc = .ok (i, n) := tk_X8_meetings (pc, i, n) (List.mem_of_getElem? h)
abbrev mX8_meetings : e_M := (yX8_meetings, cX8_meetings, 6, some (.int), [])
theorem ok_X8_meetings : e_mok mX8_meetings 2 := ⟨q833, q117, by decide +kernel, fun sig h => by cases h; rfl⟩
def lp_X8_meetings_17 (F : Nat) (h : e_H) (a0 : Nat) (a1 : Nat) (a2 : Int32) (x4_5 : Int32) : Nat → Int32 → Int32 → Option (Int32)
  | 0, _, _ => none
  | n + 1, x3_17, x5_17 =>
    Option.bind (e_fI h a1 6 2) (fun x20 =>
    if x20 ≤ x5_17 then
      some x3_17
    else
      Option.bind (f_X8_meeting h a0 x4_5 a1 x5_17) (fun x33 =>
      Option.bind (
          if x33 = a2 then
            some 1
          else
            some 0
        : Option (Int32)) (fun s45_3 =>
      Option.bind (some (x3_17 + s45_3)) (fun x46 =>
      Option.bind (some (x5_17 + 1)) (fun x47 =>
      lp_X8_meetings_17 F h a0 a1 a2 x4_5 n x46 x47)))))
def lp_X8_meetings_5 (F : Nat) (h : e_H) (a0 : Nat) (a1 : Nat) (a2 : Int32) : Nat → Int32 → Int32 → Option (Int32)
  | 0, _, _ => none
  | n + 1, x3_5, x4_5 =>
    Option.bind (e_fI h a0 6 2) (fun x8 =>
    if x8 ≤ x4_5 then
      some x3_5
    else
      Option.bind (
          lp_X8_meetings_17 F h a0 a1 a2 x4_5 F x3_5 0
        : Option (Int32)) (fun x3_53_2 =>
      Option.bind (some (x4_5 + 1)) (fun x53 =>
      lp_X8_meetings_5 F h a0 a1 a2 n x3_53_2 x53)))
def f_X8_meetings (F : Nat) (h : e_H) (a0 : Nat) (a1 : Nat) (a2 : Int32) : Option Int32 :=
  Option.bind (
      lp_X8_meetings_5 F h a0 a1 a2 F 0 0
    : Option (Int32)) (fun x3_59_1 =>
  some x3_59_1)
set_option maxHeartbeats 4000000 in
set_option maxRecDepth 100000 in
theorem ct_X8_meetings {l : Launch} {D : e_D} {B : Heap} {F : Nat} {d : Nat} {h : e_H} {a0 : Nat} {a1 : Nat} {a2 : Int32} {v : Int32} (hd : 5 ≤ d) (e : f_X8_meetings F h a0 a1 a2 = some v) : e_Run l D B d mX8_meetings [.ref a0, .ref a1, .int a2] h (.ok (some (.int v)), h) := by
  refine e_start [some (.ref a0), some (.ref a1), some (.int a2), none, none, none] (by decide) rfl rfl rfl (Nat.le_of_ble_eq_true rfl) (fun K hl0 hD0 hB0 hM hd0 hr => ?_)
  subst hl0 hD0 hB0 hd0
  have ho : (k_M K).1.cls = "PegBands$Band" := by rw [hM]; rfl
  have hT : (k_M K).2.2.2.1 = some (.int) := by rw [hM]
  refine (show Sx K cX8_meetings 0 [some (.ref a0), some (.ref a1), some (.int a2), none, none, none] [] h (f_X8_meetings F h a0 a1 a2) (fun w => w = v) from ?_) _ e rfl
  clear e
  unfold f_X8_meetings
  refine S_iconst_ 0 (dc_X8_meetings 0 rfl) rfl ?_
  refine S_istore_n (L' := [some (.ref a0), some (.ref a1), some (.int a2), some (.int 0), none, none]) (dc_X8_meetings 1 rfl) rfl ?_
  refine S_iconst_ 0 (dc_X8_meetings 2 rfl) rfl ?_
  refine S_istore (L' := [some (.ref a0), some (.ref a1), some (.int a2), some (.int 0), some (.int 0), none]) (dc_X8_meetings 3 rfl) rfl ?_
  refine Sx.regK1 (pc2 := 59) (L2 := fun (x3_59_1 : Int32) => [none, none, none, some (.int x3_59_1), none, none]) (st2 := fun (x3_59_1 : Int32) => []) (h2 := fun (x3_59_1 : Int32) => h) ?_ (fun Q1 hK1 => ?_)
  · intro x3_59_1
    show Sx K cX8_meetings 59 [none, none, none, some (.int x3_59_1), none, none] [] h _ _
    refine S_iload_n (dc_X8_meetings 31 rfl) rfl ?_
    exact S_iret (dc_X8_meetings 32 rfl) hT rfl (fun q => by cases q; exact hr)
  · have hK1 : ∀ (x3_59_1 : Int32), Sx K cX8_meetings 59 [none, none, none, some (.int x3_59_1), none, none] [] h (some x3_59_1) Q1 := hK1
    have ih1 : ∀ (n : Nat) (x3_5 : Int32) (x4_5 : Int32), Sx K cX8_meetings 5 [some (.ref a0), some (.ref a1), some (.int a2), some (.int x3_5), some (.int x4_5), none] [] h (lp_X8_meetings_5 F h a0 a1 a2 n x3_5 x4_5) Q1 := by
      intro n
      induction n with
      | zero => intro x3_5 x4_5; exact Sx.none
      | succ n ih1 =>
        intro x3_5 x4_5
        rw [lp_X8_meetings_5.eq_2]
        refine S_iload (dc_X8_meetings 4 rfl) rfl ?_
        refine S_aload_n (dc_X8_meetings 5 rfl) rfl ?_
        refine S_getI (dc_X8_meetings 6 rfl) ho fl_X8_28_6_2 (fun _ _ => rfl) (fun x8 e8 => ?_)
        refine S_icmp_ge 59 (dc_X8_meetings 7 rfl) rfl (fun c11 => ?_) (fun c11 => ?_)
        · refine Sx.cut [false, false, false, true, false, true] ?_
          exact hK1 x3_5
        · refine S_iconst_ 0 (dc_X8_meetings 8 rfl) rfl ?_
          refine S_istore (L' := [some (.ref a0), some (.ref a1), some (.int a2), some (.int x3_5), some (.int x4_5), some (.int 0)]) (dc_X8_meetings 9 rfl) rfl ?_
          refine Sx.regK1 (pc2 := 53) (L2 := fun (x3_53_2 : Int32) => [some (.ref a0), some (.ref a1), some (.int a2), some (.int x3_53_2), some (.int x4_5), none]) (st2 := fun (x3_53_2 : Int32) => []) (h2 := fun (x3_53_2 : Int32) => h) ?_ (fun Q2 hK2 => ?_)
          · intro x3_53_2
            show Sx K cX8_meetings 53 [some (.ref a0), some (.ref a1), some (.int a2), some (.int x3_53_2), some (.int x4_5), none] [] h _ _
            refine S_iincN 1 (L' := fun x53 => [some (.ref a0), some (.ref a1), some (.int a2), some (.int x3_53_2), some (.int x53), none]) (dc_X8_meetings 29 rfl) rfl rfl (fun _ => rfl) (fun x53 n53 => ?_)
            refine S_goto 5 (dc_X8_meetings 30 rfl) rfl ?_
            exact ih1 x3_53_2 x53
          · have hK2 : ∀ (x3_53_2 : Int32), Sx K cX8_meetings 53 [some (.ref a0), some (.ref a1), some (.int a2), some (.int x3_53_2), some (.int x4_5), none] [] h (some x3_53_2) Q2 := hK2
            have ih2 : ∀ (n : Nat) (x3_17 : Int32) (x5_17 : Int32), Sx K cX8_meetings 17 [some (.ref a0), some (.ref a1), some (.int a2), some (.int x3_17), some (.int x4_5), some (.int x5_17)] [] h (lp_X8_meetings_17 F h a0 a1 a2 x4_5 n x3_17 x5_17) Q2 := by
              intro n
              induction n with
              | zero => intro x3_17 x5_17; exact Sx.none
              | succ n ih2 =>
                intro x3_17 x5_17
                rw [lp_X8_meetings_17.eq_2]
                refine S_iload (dc_X8_meetings 10 rfl) rfl ?_
                refine S_aload_n (dc_X8_meetings 11 rfl) rfl ?_
                refine S_getI (dc_X8_meetings 12 rfl) ho fl_X8_28_6_2 (fun _ _ => rfl) (fun x20 e20 => ?_)
                refine S_icmp_ge 53 (dc_X8_meetings 13 rfl) rfl (fun c23 => ?_) (fun c23 => ?_)
                · refine Sx.cut [true, true, true, true, true, false] ?_
                  exact hK2 x3_17
                · refine S_iload_n (dc_X8_meetings 14 rfl) rfl ?_
                  refine S_aload_n (dc_X8_meetings 15 rfl) rfl ?_
                  refine S_iload (dc_X8_meetings 16 rfl) rfl ?_
                  refine S_aload_n (dc_X8_meetings 17 rfl) rfl ?_
                  refine S_iload (dc_X8_meetings 18 rfl) rfl ?_
                  refine S_roI (d := k_d K - 1) (e_callV (b := a0) (As := [.int x4_5, .ref a1, .int x5_17]) (rest := [.int x3_17]) ok_X8_meeting rfl (Nat.le_of_ble_eq_true rfl) (dc_X8_meetings 19 rfl) ho q805 q806 (show e_cl[6]? = some (RX8, TX8, 4) from rfl) (e_sel.of q807) (e_fI_of e8).1 rfl (Nat.le_of_ble_eq_true rfl)) (by omega) (fun _ e => ct_X8_meeting (by omega) e) (fun x33 e33 => ?_)
                  refine S_iload_n (dc_X8_meetings 20 rfl) rfl ?_
                  refine Sx.regK1 (pc2 := 45) (L2 := fun (s45_3 : Int32) => [some (.ref a0), some (.ref a1), some (.int a2), none, some (.int x4_5), some (.int x5_17)]) (st2 := fun (s45_3 : Int32) => [.int s45_3, .int x3_17]) (h2 := fun (s45_3 : Int32) => h) ?_ (fun Q3 hK3 => ?_)
                  · intro s45_3
                    show Sx K cX8_meetings 45 [some (.ref a0), some (.ref a1), some (.int a2), none, some (.int x4_5), some (.int x5_17)] [.int s45_3, .int x3_17] h _ _
                    refine S_iadd (dc_X8_meetings 25 rfl) ?_
                    refine Sx.nameI (fun x46 n46 => ?_)
                    refine S_istore_n (L' := [some (.ref a0), some (.ref a1), some (.int a2), some (.int x46), some (.int x4_5), some (.int x5_17)]) (dc_X8_meetings 26 rfl) rfl ?_
                    refine S_iincN 1 (L' := fun x47 => [some (.ref a0), some (.ref a1), some (.int a2), some (.int x46), some (.int x4_5), some (.int x47)]) (dc_X8_meetings 27 rfl) rfl rfl (fun _ => rfl) (fun x47 n47 => ?_)
                    refine S_goto 17 (dc_X8_meetings 28 rfl) rfl ?_
                    exact ih2 x46 x47
                  · have hK3 : ∀ (s45_3 : Int32), Sx K cX8_meetings 45 [some (.ref a0), some (.ref a1), some (.int a2), none, some (.int x4_5), some (.int x5_17)] [.int s45_3, .int x3_17] h (some s45_3) Q3 := hK3
                    refine S_icmp_ne 44 (dc_X8_meetings 21 rfl) rfl (fun c37 => ?_) (fun c37 => ?_)
                    · refine S_iconst_ 0 (dc_X8_meetings 24 rfl) rfl ?_
                      refine Sx.cut [true, true, true, false, true, true] ?_
                      exact hK3 0
                    · refine S_iconst_ 1 (dc_X8_meetings 22 rfl) rfl ?_
                      refine S_goto 45 (dc_X8_meetings 23 rfl) rfl ?_
                      refine Sx.cut [true, true, true, false, true, true] ?_
                      exact hK3 1
            exact ih2 F x3_5 0
    exact ih1 F 0 0
abbrev cX8_isClear : ByteArray := prog_3_method_17_code
def yX8_isClear : MethodName := ⟨"PegBands$Band", "isClear", "(LPegBands$Band;)Z"⟩
def tb_X8_isClear : List (Nat × Instr × Nat) := [(0, .aload_n 0, 1), (1, .aload_n 1, 1), (2, .iconst 1, 1), (3, .invokevirtual 82, 3), (6, .ifCond .ne 16, 3), (9, .aload_n 0, 1), (10, .aload_n 1, 1), (11, .iconst 2, 1), (12, .invokevirtual 82, 3), (15, .ifCond .ne 7, 3), (18, .iconst 1, 1), (19, .goto 4, 3), (22, .iconst 0, 1), (23, .ireturn, 1)]
theorem tk_X8_isClear : ∀ q ∈ tb_X8_isClear, decode cX8_isClear q.1 = .ok q.2 := by decide +kernel
theorem dc_X8_isClear (k : Nat) {pc n : Nat} {i : Instr} (h : tb_X8_isClear[k]? = some (pc, i, n)) : decode cX8_isClear pc = .ok (i, n) := tk_X8_isClear (pc, i, n) (List.mem_of_getElem? h)
abbrev mX8_isClear : e_M := (yX8_isClear, cX8_isClear, 2, some (.boolean), [])
theorem ok_X8_isClear : e_mok mX8_isClear 1 := ⟨q829, q117, by decide +kernel, fun sig h => by cases h; rfl⟩
def f_X8_isClear (F : Nat) (h : e_H) (a0 : Nat) (a1 : Nat) : Option Int32 :=
  Option.bind (e_is h a0 6) (fun _ =>
  Option.bind (f_X8_meetings F h a0 a1 1) (fun x3 =>
  if x3 = 0 then
    Option.bind (f_X8_meetings F h a0 a1 2) (fun x12 =>
    if x12 = 0 then
      some 1
    else
      some 0)
  else
    some 0))
set_option maxHeartbeats 4000000 in
set_option maxRecDepth 100000 in
theorem ct_X8_isClear {l : Launch} {D : e_D} {B : Heap} {F : Nat} {d : Nat} {h : e_H} {a0 : Nat} {a1 : Nat} {v : Int32} (hd : 6 ≤ d) (e : f_X8_isClear F h a0 a1 = some v) : e_Run l D B d mX8_isClear [.ref a0, .ref a1] h (.ok (some (.int v)), h) := by
  refine e_start [some (.ref a0), some (.ref a1)] (by decide) rfl rfl rfl (Nat.le_of_ble_eq_true rfl) (fun K hl0 hD0 hB0 hM hd0 hr => ?_)
  subst hl0 hD0 hB0 hd0
  have ho : (k_M K).1.cls = "PegBands$Band" := by rw [hM]; rfl
  have hT : (k_M K).2.2.2.1 = some (.boolean) := by rw [hM]
  refine (show Sx K cX8_isClear 0 [some (.ref a0), some (.ref a1)] [] h (f_X8_isClear F h a0 a1) (fun w => w = v) from ?_) _ e rfl
  clear e
  unfold f_X8_isClear
  refine S_aload_n (dc_X8_isClear 0 rfl) rfl ?_
  refine S_aload_n (dc_X8_isClear 1 rfl) rfl ?_
  refine S_iconst_ 1 (dc_X8_isClear 2 rfl) rfl ?_
  refine Sx.ask (fun _ i3 => ?_)
  refine S_roI (d := k_d K - 1) (e_callV (b := a0) (As := [.ref a1, .int 1]) (rest := []) ok_X8_meetings rfl (Nat.le_of_ble_eq_true rfl) (dc_X8_isClear 3 rfl) ho q830 q831 (show e_cl[6]? = some (RX8, TX8, 4) from rfl) (e_sel.of q832) (e_is_of i3) rfl (Nat.le_of_ble_eq_true rfl)) (by omega) (fun _ e => ct_X8_meetings (by omega) e) (fun x3 e3 => ?_)
  refine S_if_ne 22 (dc_X8_isClear 4 rfl) rfl (fun c6 => ?_) (fun c6 => ?_)
  · refine S_iconst_ 0 (dc_X8_isClear 12 rfl) rfl ?_
    exact S_iret (dc_X8_isClear 13 rfl) hT rfl (fun q => by cases q; exact hr)
  · refine S_aload_n (dc_X8_isClear 5 rfl) rfl ?_
    refine S_aload_n (dc_X8_isClear 6 rfl) rfl ?_
    refine S_iconst_ 2 (dc_X8_isClear 7 rfl) rfl ?_
    refine S_roI (d := k_d K - 1) (e_callV (b := a0) (As := [.ref a1, .int 2]) (rest := []) ok_X8_meetings rfl (Nat.le_of_ble_eq_true rfl) (dc_X8_isClear 8 rfl) ho q830 q831 (show e_cl[6]? = some (RX8, TX8, 4) from rfl) (e_sel.of q832) (e_is_of i3) rfl (Nat.le_of_ble_eq_true rfl)) (by omega) (fun _ e => ct_X8_meetings (by omega) e) (fun x12 e12 => ?_)
    refine S_if_ne 22 (dc_X8_isClear 9 rfl) rfl (fun c15 => ?_) (fun c15 => ?_)
    · refine S_iconst_ 0 (dc_X8_isClear 12 rfl) rfl ?_
      exact S_iret (dc_X8_isClear 13 rfl) hT rfl (fun q => by cases q; exact hr)
    · refine S_iconst_ 1 (dc_X8_isClear 10 rfl) rfl ?_
      refine S_goto 23 (dc_X8_isClear 11 rfl) rfl ?_
      exact S_iret (dc_X8_isClear 13 rfl) hT rfl (fun q => by cases q; exact hr)
