/-! printed by gen/gen.py -/
set_option maxRecDepth 100000
abbrev cX10_sum : ByteArray := prog_18_method_99_code
def yX10_sum : MethodName := ⟨"PegBandsModel", "sum", "(I)I"⟩
def tb_X10_sum : List (Nat × Instr × Nat) := [(0, .iconst 0, 1), (1, .istore_n 2, 1), (2, .iconst 0, 1), (3, .istore_n 3, 1), (4, .iload_n 3, 1), (5, .aload_n 0, 1), (6, .getfield 13, 3), (9, .sipush 242, 3), (12, .iaload, 1), (13, .if_icmp .ge 26, 3), (16, .iload_n 2, 1), (17, .aload_n 0, 1), (18, .getfield 13, 3), (21, .sipush 245, 3), (24, .iconst 2, 1), (25, .iload_n 3, 1), (26, .imul, 1), (27, .iadd, 1), (28, .iload_n 1, 1), (29, .iadd, 1), (30, .iaload, 1), (31, .iadd, 1), (32, .istore_n 2, 1), (33, .iinc 3 1, 3), (36, .goto (-32), 3), (39, .iload_n 2, 1), (40, .ireturn, 1)]
theorem tk_X10_sum : ∀ q ∈ tb_X10_sum, decode cX10_sum q.1 = .ok q.2 := by decide +kernel
theorem dc_X10_sum (k : Nat) {pc n : Nat} {i : Instr} (h : tb_X10_sum[k]? = some (pc, i, n)) : decode cX10_sum pc = .ok (i, n) := tk_X10_sum (pc, i, n) (List.mem_of_getElem? h)
abbrev mX10_sum : e_M := (yX10_sum, cX10_sum, 4, some (.int), [])
theorem ok_X10_sum : e_mok mX10_sum 1 := ⟨q1999, q119, by decide +kernel, fun sig h => by cases h; rfl⟩
def lp_X10_sum_4 (F : Nat) (h : e_H) (a0 : Nat) (a1 : Int32) : Nat → Int32 → Int32 → Option (Int32)
  | 0, _, _ => none
  | n + 1, x2_4, x3_4 =>
    Option.bind (e_fA h a0 8 15) (fun x6 =>
    Option.bind (e_aI h x6 0 242) (fun x12 =>
    if x12 ≤ x3_4 then
      some x2_4
    else
      Option.bind (e_fA h a0 8 15) (fun x18 =>
      Option.bind (e_aI h x18 0 ((245 + (2 * x3_4)) + a1)) (fun x30 =>
      Option.bind (some (x2_4 + x30)) (fun x32 =>
      Option.bind (some (x3_4 + 1)) (fun x33 =>
      lp_X10_sum_4 F h a0 a1 n x32 x33))))))
def f_X10_sum (F : Nat) (h : e_H) (a0 : Nat) (a1 : Int32) : Option Int32 :=
  Option.bind (
      lp_X10_sum_4 F h a0 a1 F 0 0
    : Option (Int32)) (fun x2_39_1 =>
  some x2_39_1)
set_option maxHeartbeats 4000000 in
set_option maxRecDepth 100000 in
theorem ct_X10_sum {l : Launch} {D : e_D} {B : Heap} {F : Nat} {d : Nat} {h : e_H} {a0 : Nat} {a1 : Int32} {v : Int32} (hd : 1 ≤ d) (e : f_X10_sum F h a0 a1 = some v) : e_Run l D B d mX10_sum [.ref a0, .int a1] h (.ok (some (.int v)), h) := by
  refine e_start [some (.ref a0), some (.int a1), none, none] (by decide) rfl rfl rfl (Nat.le_of_ble_eq_true rfl) (fun K hl0 hD0 hB0 hM hd0 hr => ?_)
  subst hl0 hD0 hB0 hd0
  have ho : (k_M K).1.cls = "PegBandsModel" := by rw [hM]; rfl
  have hT : (k_M K).2.2.2.1 = some (.int) := by rw [hM]
  refine (show Sx K cX10_sum 0 [some (.ref a0), some (.int a1), none, none] [] h (f_X10_sum F h a0 a1) (fun w => w = v) from ?_) _ e rfl
  clear e
  unfold f_X10_sum
  refine S_iconst_ 0 (dc_X10_sum 0 rfl) rfl ?_
  refine S_istore_n (L' := [some (.ref a0), some (.int a1), some (.int 0), none]) (dc_X10_sum 1 rfl) rfl ?_
  refine S_iconst_ 0 (dc_X10_sum 2 rfl) rfl ?_
  refine S_istore_n (L' := [some (.ref a0), some (.int a1), some (.int 0), some (.int 0)]) (dc_X10_sum 3 rfl) rfl ?_
  refine Sx.regK1 (pc2 := 39) (L2 := fun (x2_39_1 : Int32) => [none, none, some (.int x2_39_1), none]) (st2 := fun (x2_39_1 : Int32) => []) (h2 := fun (x2_39_1 : Int32) => h) ?_ (fun Q1 hK1 => ?_)
  · intro x2_39_1
    show Sx K cX10_sum 39 [none, none, some (.int x2_39_1), none] [] h _ _
    refine S_iload_n (dc_X10_sum 25 rfl) rfl ?_
    exact S_iret (dc_X10_sum 26 rfl) hT rfl (fun q => by cases q; exact hr)
  · have hK1 : ∀ (x2_39_1 : Int32), Sx K cX10_sum 39 [none, none, some (.int x2_39_1), none] [] h (some x2_39_1) Q1 := hK1
    have ih1 : ∀ (n : Nat) (x2_4 : Int32) (x3_4 : Int32), Sx K cX10_sum 4 [some (.ref a0), some (.int a1), some (.int x2_4), some (.int x3_4)] [] h (lp_X10_sum_4 F h a0 a1 n x2_4 x3_4) Q1 := by
      intro n
      induction n with
      | zero => intro x2_4 x3_4; exact Sx.none
      | succ n ih1 =>
        intro x2_4 x3_4
        rw [lp_X10_sum_4.eq_2]
        refine S_iload_n (dc_X10_sum 4 rfl) rfl ?_
        refine S_aload_n (dc_X10_sum 5 rfl) rfl ?_
        refine S_getA (dc_X10_sum 6 rfl) ho fl_X10_13_8_15 (fun _ _ => rfl) (fun x6 e6 => ?_)
        refine S_sipush_ 242 (dc_X10_sum 7 rfl) rfl ?_
        refine S_iald (dc_X10_sum 8 rfl) (fun x12 e12 => ?_)
        refine S_icmp_ge 39 (dc_X10_sum 9 rfl) rfl (fun c13 => ?_) (fun c13 => ?_)
        · refine Sx.cut [false, false, true, false] ?_
          exact hK1 x2_4
        · refine S_iload_n (dc_X10_sum 10 rfl) rfl ?_
          refine S_aload_n (dc_X10_sum 11 rfl) rfl ?_
          refine S_getA (dc_X10_sum 12 rfl) ho fl_X10_13_8_15 (fun _ _ => rfl) (fun x18 e18 => ?_)
          refine S_sipush_ 245 (dc_X10_sum 13 rfl) rfl ?_
          refine S_iconst_ 2 (dc_X10_sum 14 rfl) rfl ?_
          refine S_iload_n (dc_X10_sum 15 rfl) rfl ?_
          refine S_imul (dc_X10_sum 16 rfl) ?_
          refine S_iadd (dc_X10_sum 17 rfl) ?_
          refine S_iload_n (dc_X10_sum 18 rfl) rfl ?_
          refine S_iadd (dc_X10_sum 19 rfl) ?_
          refine S_iald (dc_X10_sum 20 rfl) (fun x30 e30 => ?_)
          refine S_iadd (dc_X10_sum 21 rfl) ?_
          refine Sx.nameI (fun x32 n32 => ?_)
          refine S_istore_n (L' := [some (.ref a0), some (.int a1), some (.int x32), some (.int x3_4)]) (dc_X10_sum 22 rfl) rfl ?_
          refine S_iincN 1 (L' := fun x33 => [some (.ref a0), some (.int a1), some (.int x32), some (.int x33)]) (dc_X10_sum 23 rfl) rfl rfl (fun _ => rfl) (fun x33 n33 => ?_)
          refine S_goto 4 (dc_X10_sum 24 rfl) rfl ?_
          exact ih1 x32 x33
    exact ih1 F 0 0
abbrev cX10_doClose : ByteArray := prog_18_method_100_code
def yX10_doClose : MethodName := ⟨"PegBandsModel", "doClose", "()Z"⟩
def tb_X10_doClose : List (Nat × Instr × Nat) := [(0, .aload_n 0, 1), (1, .iconst 0, 1), (2, .invokevirtual 389, 3), (5, .ifCond .ne 15, 3), (8, .aload_n 0, 1), (9, .iconst 1, 1), (10, .invokevirtual 389, 3), (13, .ifCond .ne 7, 3), (16, .iconst 1, 1), (17, .goto 4, 3), (20, .iconst 0, 1), (21, .ireturn, 1)]
theorem tk_X10_doClose : ∀ q ∈ tb_X10_doClose, decode cX10_doClose q.1 = .ok q.2 := by decide +kernel
theorem dc_X10_doClose (k : Nat) {pc n : Nat} {i : Instr} (h : tb_X10_doClose[k]? = some (pc, i, n)) : decode cX10_doClose pc = .ok (i, n) := tk_X10_doClose (pc, i, n) (List.mem_of_getElem? h)
abbrev mX10_doClose : e_M := (yX10_doClose, cX10_doClose, 1, some (.boolean), [])
theorem ok_X10_doClose : e_mok mX10_doClose 0 := ⟨q1995, q119, by decide +kernel, fun sig h => by cases h; rfl⟩
def f_X10_doClose (F : Nat) (h : e_H) (a0 : Nat) : Option Int32 :=
  Option.bind (e_is h a0 8) (fun _ =>
  Option.bind (f_X10_sum F h a0 0) (fun x2 =>
  if x2 = 0 then
    Option.bind (f_X10_sum F h a0 1) (fun x10 =>
    if x10 = 0 then
      some 1
    else
      some 0)
  else
    some 0))
set_option maxHeartbeats 4000000 in
set_option maxRecDepth 100000 in
theorem ct_X10_doClose {l : Launch} {D : e_D} {B : Heap} {F : Nat} {d : Nat} {h : e_H} {a0 : Nat} {v : Int32} (hd : 2 ≤ d) (e : f_X10_doClose F h a0 = some v) : e_Run l D B d mX10_doClose [.ref a0] h (.ok (some (.int v)), h) := by
  refine e_start [some (.ref a0)] (by decide) rfl rfl rfl (Nat.le_of_ble_eq_true rfl) (fun K hl0 hD0 hB0 hM hd0 hr => ?_)
  subst hl0 hD0 hB0 hd0
  have ho : (k_M K).1.cls = "PegBandsModel" := by rw [hM]; rfl
  have hT : (k_M K).2.2.2.1 = some (.boolean) := by rw [hM]
  refine (show Sx K cX10_doClose 0 [some (.ref a0)] [] h (f_X10_doClose F h a0) (fun w => w = v) from ?_) _ e rfl
  clear e
  unfold f_X10_doClose
  refine S_aload_n (dc_X10_doClose 0 rfl) rfl ?_
  refine S_iconst_ 0 (dc_X10_doClose 1 rfl) rfl ?_
  refine Sx.ask (fun _ i2 => ?_)
  refine S_roI (d := k_d K - 1) (e_callV (b := a0) (As := [.int 0]) (rest := []) ok_X10_sum rfl (Nat.le_of_ble_eq_true rfl) (dc_X10_doClose 2 rfl) ho q1996 q1998 (show e_cl[8]? = some (RX10, TX10, 51) from rfl) (e_sel.of qs83) (e_is_of i2) rfl (Nat.le_of_ble_eq_true rfl)) (by omega) (fun _ e => ct_X10_sum (by omega) e) (fun x2 e2 => ?_)
  refine S_if_ne 20 (dc_X10_doClose 3 rfl) rfl (fun c5 => ?_) (fun c5 => ?_)
  · refine S_iconst_ 0 (dc_X10_doClose 10 rfl) rfl ?_
    exact S_iret (dc_X10_doClose 11 rfl) hT rfl (fun q => by cases q; exact hr)
  · refine S_aload_n (dc_X10_doClose 4 rfl) rfl ?_
    refine S_iconst_ 1 (dc_X10_doClose 5 rfl) rfl ?_
    refine S_roI (d := k_d K - 1) (e_callV (b := a0) (As := [.int 1]) (rest := []) ok_X10_sum rfl (Nat.le_of_ble_eq_true rfl) (dc_X10_doClose 6 rfl) ho q1996 q1998 (show e_cl[8]? = some (RX10, TX10, 51) from rfl) (e_sel.of qs83) (e_is_of i2) rfl (Nat.le_of_ble_eq_true rfl)) (by omega) (fun _ e => ct_X10_sum (by omega) e) (fun x10 e10 => ?_)
    refine S_if_ne 20 (dc_X10_doClose 7 rfl) rfl (fun c13 => ?_) (fun c13 => ?_)
    · refine S_iconst_ 0 (dc_X10_doClose 10 rfl) rfl ?_
      exact S_iret (dc_X10_doClose 11 rfl) hT rfl (fun q => by cases q; exact hr)
    · refine S_iconst_ 1 (dc_X10_doClose 8 rfl) rfl ?_
      refine S_goto 21 (dc_X10_doClose 9 rfl) rfl ?_
      exact S_iret (dc_X10_doClose 11 rfl) hT rfl (fun q => by cases q; exact hr)
abbrev cX10_closes : ByteArray := prog_18_method_101_code
def yX10_closes : MethodName := ⟨"PegBandsModel", "closes", "()I"⟩
def tb_X10_closes : List (Nat × Instr × Nat) := [(0, .aload_n 0, 1), (1, .iconst 0, 1), (2, .putfield 94, 3), (5, .aload_n 0, 1), (6, .getfield 13, 3), (9, .sipush 241, 3), (12, .iaload, 1), (13, .ifCond .ne 7, 3), (16, .iconst (-1), 1), (17, .goto 15, 3), (20, .aload_n 0, 1), (21, .invokevirtual 392, 3), (24, .ifCond .eq 7, 3), (27, .iconst 1, 1), (28, .goto 4, 3), (31, .iconst 0, 1), (32, .ireturn, 1)]
theorem tk_X10_closes : ∀ q ∈ tb_X10_closes, decode cX10_closes q.1 = .ok q.2 := by decide +kernel
theorem dc_X10_closes (k : Nat) {pc n : Nat} {i : Instr} (h : tb_X10_closes[k]? = some (pc, i, n)) : decode cX10_closes pc = .ok (i, n) := tk_X10_closes (pc, i, n) (List.mem_of_getElem? h)
abbrev mX10_closes : e_M := (yX10_closes, cX10_closes, 1, some (.int), [])
theorem ok_X10_closes : e_mok mX10_closes 0 := ⟨q1991, q119, by decide +kernel, fun sig h => by cases h; rfl⟩
def f_X10_closes (F : Nat) (h : e_H) (a0 : Nat) : Option (Int32 × e_H) :=
  Option.bind (e_gI h a0 8 0 0) (fun h2 =>
  Option.bind (e_fA h2 a0 8 15) (fun x6 =>
  Option.bind (e_aI h2 x6 0 241) (fun x12 =>
  if x12 = 0 then
    some ((-1), h2)
  else
    Option.bind (f_X10_doClose F h2 a0) (fun x21 =>
    if x21 = 0 then
      some (0, h2)
    else
      some (1, h2)))))
set_option maxHeartbeats 4000000 in
set_option maxRecDepth 100000 in
theorem ct_X10_closes {l : Launch} {D : e_D} {B : Heap} {F : Nat} {d : Nat} {h : e_H} {a0 : Nat} {v : Int32} {h1 : e_H} (hd : 3 ≤ d) (e : f_X10_closes F h a0 = some (v, h1)) : e_Run l D B d mX10_closes [.ref a0] h (.ok (some (.int v)), h1) := by
  refine e_start [some (.ref a0)] (by decide) rfl rfl rfl (Nat.le_of_ble_eq_true rfl) (fun K hl0 hD0 hB0 hM hd0 hr => ?_)
  subst hl0 hD0 hB0 hd0
  have ho : (k_M K).1.cls = "PegBandsModel" := by rw [hM]; rfl
  have hT : (k_M K).2.2.2.1 = some (.int) := by rw [hM]
  refine (show Sx K cX10_closes 0 [some (.ref a0)] [] h (f_X10_closes F h a0) (fun w => w = (v, h1)) from ?_) _ e rfl
  clear e
  unfold f_X10_closes
  refine S_aload_n (dc_X10_closes 0 rfl) rfl ?_
  refine S_iconst_ 0 (dc_X10_closes 1 rfl) rfl ?_
  refine S_putI (dc_X10_closes 2 rfl) ho fl_X10_94_8_0 (fun _ _ => rfl) (Or.inl rfl) rfl rfl (fun h2 e2 => ?_)
  refine S_aload_n (dc_X10_closes 3 rfl) rfl ?_
  refine S_getA (dc_X10_closes 4 rfl) ho fl_X10_13_8_15 (fun _ _ => rfl) (fun x6 e6 => ?_)
  refine S_sipush_ 241 (dc_X10_closes 5 rfl) rfl ?_
  refine S_iald (dc_X10_closes 6 rfl) (fun x12 e12 => ?_)
  refine S_if_ne 20 (dc_X10_closes 7 rfl) rfl (fun c13 => ?_) (fun c13 => ?_)
  · refine S_aload_n (dc_X10_closes 10 rfl) rfl ?_
    refine S_roI (d := k_d K - 1) (e_callV (b := a0) (As := []) (rest := []) ok_X10_doClose rfl (Nat.le_of_ble_eq_true rfl) (dc_X10_closes 11 rfl) ho q1992 q1994 (show e_cl[8]? = some (RX10, TX10, 51) from rfl) (e_sel.of qs82) (e_fA_of e6).1 rfl (Nat.le_of_ble_eq_true rfl)) (by omega) (fun _ e => ct_X10_doClose (by omega) e) (fun x21 e21 => ?_)
    refine S_if_eq 31 (dc_X10_closes 12 rfl) rfl (fun c24 => ?_) (fun c24 => ?_)
    · refine S_iconst_ 0 (dc_X10_closes 15 rfl) rfl ?_
      exact S_iret (dc_X10_closes 16 rfl) hT rfl (e_rqI hr)
    · refine S_iconst_ 1 (dc_X10_closes 13 rfl) rfl ?_
      refine S_goto 32 (dc_X10_closes 14 rfl) rfl ?_
      exact S_iret (dc_X10_closes 16 rfl) hT rfl (e_rqI hr)
  · refine S_iconst_ (-1) (dc_X10_closes 8 rfl) rfl ?_
    refine S_goto 32 (dc_X10_closes 9 rfl) rfl ?_
    exact S_iret (dc_X10_closes 16 rfl) hT rfl (e_rqI hr)
abbrev cX10_layCalls : ByteArray := prog_18_method_102_code
def yX10_layCalls : MethodName := ⟨"PegBandsModel", "layCalls", "(IIII)V"⟩
def tb_X10_layCalls : List (Nat × Instr × Nat) := [(0, .bipush 105, 2), (2, .bipush 17, 2), (4, .iload_n 1, 1), (5, .imul, 1), (6, .iadd, 1), (7, .istore 5, 2), (9, .aload_n 0, 1), (10, .getfield 16, 3), (13, .iload 5, 2), (15, .aload_n 0, 1), (16, .getfield 13, 3), (19, .sipush 242, 3), (22, .iaload, 1), (23, .iastore, 1), (24, .aload_n 0, 1), (25, .getfield 13, 3), (28, .sipush 243, 3), (31, .iaload, 1), (32, .istore 6, 2), (34, .aload_n 0, 1), (35, .getfield 13, 3), (38, .sipush 244, 3), (41, .iaload, 1), (42, .istore 7, 2), (44, .iconst 0, 1), (45, .istore 8, 2), (47, .iload 8, 2), (49, .aload_n 0, 1), (50, .getfield 13, 3), (53, .sipush 242, 3), (56, .iaload, 1), (57, .if_icmp .ge 98, 3), (60, .aload_n 0, 1), (61, .getfield 16, 3), (64, .iload 5, 2), (66, .iconst 1, 1), (67, .iadd, 1), (68, .iconst 2, 1), (69, .iload 8, 2), (71, .imul, 1), (72, .iadd, 1), (73, .iload 6, 2), (75, .iastore, 1), (76, .aload_n 0, 1), (77, .getfield 16, 3), (80, .iload 5, 2), (82, .iconst 2, 1), (83, .iadd, 1), (84, .iconst 2, 1), (85, .iload 8, 2), (87, .imul, 1), (88, .iadd, 1), (89, .iload 7, 2), (91, .iastore, 1), (92, .iload 6, 2), (94, .iload 8, 2), (96, .iload_n 2, 1), (97, .if_icmp .ne 7, 3), (100, .iload_n 3, 1), (101, .goto 16, 3), (104, .aload_n 0, 1), (105, .getfield 13, 3), (108, .sipush 245, 3), (111, .iconst 2, 1), (112, .iload 8, 2), (114, .imul, 1), (115, .iadd, 1), (116, .iaload, 1), (117, .iadd, 1), (118, .istore 6, 2), (120, .iload 7, 2), (122, .iload 8, 2), (124, .iload_n 2, 1), (125, .if_icmp .ne 8, 3), (128, .iload 4, 2), (130, .goto 16, 3), (133, .aload_n 0, 1), (134, .getfield 13, 3), (137, .sipush 246, 3), (140, .iconst 2, 1), (141, .iload 8, 2), (143, .imul, 1), (144, .iadd, 1), (145, .iaload, 1), (146, .iadd, 1), (147, .istore 7, 2), (149, .iinc 8 1, 3), (152, .goto (-105), 3), (155, .return_, 1)]
theorem tk_X10_layCalls : ∀ q ∈ tb_X10_layCalls, decode cX10_layCalls q.1 = .ok q.2 := by decide +kernel
theorem dc_X10_layCalls (k : Nat) {pc n : Nat} {i : Instr} (h : tb_X10_layCalls[k]? = some (pc, i, n)) : decode cX10_layCalls pc = .ok (i, n) := tk_X10_layCalls (pc, i, n) (List.mem_of_getElem? h)
abbrev mX10_layCalls : e_M := (yX10_layCalls, cX10_layCalls, 9, none, [])
theorem ok_X10_layCalls : e_mok mX10_layCalls 4 := ⟨q2007, q119, by decide +kernel, fun sig h => by cases h; rfl⟩
def lp_X10_layCalls_47 (F : Nat) (a0 : Nat) (a2 : Int32) (a3 : Int32) (a4 : Int32) (x7 : Int32) : Nat → Int32 → Int32 → Int32 → e_H → Option (e_H)
  | 0, _, _, _, _ => none
  | n + 1, x6_47, x7_47, x8_47, h_47 =>
    Option.bind (e_fA h_47 a0 8 15) (fun x50 =>
    Option.bind (e_aI h_47 x50 0 242) (fun x56 =>
    if x56 ≤ x8_47 then
      some h_47
    else
      Option.bind (e_fA h_47 a0 8 16) (fun x61 =>
      Option.bind (e_wI h_47 x61 0 ((x7 + 1) + (2 * x8_47)) x6_47) (fun h75 =>
      Option.bind (e_fA h75 a0 8 16) (fun x77 =>
      Option.bind (e_wI h75 x77 0 ((x7 + 2) + (2 * x8_47)) x7_47) (fun h91 =>
      Option.bind (
          if x8_47 = a2 then
            some a3
          else
            Option.bind (e_fA h91 a0 8 15) (fun x105 =>
            Option.bind (e_aI h91 x105 0 (245 + (2 * x8_47))) (fun x116 =>
            some x116))
        : Option (Int32)) (fun s117_2 =>
      Option.bind (some (x6_47 + s117_2)) (fun x118 =>
      Option.bind (
          if x8_47 = a2 then
            some a4
          else
            Option.bind (e_fA h91 a0 8 15) (fun x134 =>
            Option.bind (e_aI h91 x134 0 (246 + (2 * x8_47))) (fun x145 =>
            some x145))
        : Option (Int32)) (fun s146_3 =>
      Option.bind (some (x7_47 + s146_3)) (fun x147 =>
      Option.bind (some (x8_47 + 1)) (fun x149 =>
      lp_X10_layCalls_47 F a0 a2 a3 a4 x7 n x118 x147 x149 h91)))))))))))
def f_X10_layCalls (F : Nat) (h : e_H) (a0 : Nat) (a1 : Int32) (a2 : Int32) (a3 : Int32) (a4 : Int32) : Option e_H :=
  Option.bind (some (105 + (17 * a1))) (fun x7 =>
  Option.bind (e_fA h a0 8 16) (fun x10 =>
  Option.bind (e_fA h a0 8 15) (fun x16 =>
  Option.bind (e_aI h x16 0 242) (fun x22 =>
  Option.bind (e_wI h x10 0 x7 x22) (fun h23 =>
  Option.bind (e_fA h23 a0 8 15) (fun x25 =>
  Option.bind (e_aI h23 x25 0 243) (fun x31 =>
  Option.bind (e_fA h23 a0 8 15) (fun x35 =>
  Option.bind (e_aI h23 x35 0 244) (fun x41 =>
  Option.bind (
      lp_X10_layCalls_47 F a0 a2 a3 a4 x7 F x31 x41 0 h23
    : Option (e_H)) (fun h155_1 =>
  some h155_1))))))))))
set_option maxHeartbeats 4000000 in
set_option maxRecDepth 100000 in
theorem ct_X10_layCalls {l : Launch} {D : e_D} {B : Heap} {F : Nat} {d : Nat} {h : e_H} {a0 : Nat} {a1 : Int32} {a2 : Int32} {a3 : Int32} {a4 : Int32} {h1 : e_H} (hd : 1 ≤ d) (e : f_X10_layCalls F h a0 a1 a2 a3 a4 = some h1) : e_Run l D B d mX10_layCalls [.ref a0, .int a1, .int a2, .int a3, .int a4] h (.ok none, h1) := by
  refine e_start [some (.ref a0), some (.int a1), some (.int a2), some (.int a3), some (.int a4), none, none, none, none] (by decide) rfl rfl rfl (Nat.le_of_ble_eq_true rfl) (fun K hl0 hD0 hB0 hM hd0 hr => ?_)
  subst hl0 hD0 hB0 hd0
  have ho : (k_M K).1.cls = "PegBandsModel" := by rw [hM]; rfl
  have hT : (k_M K).2.2.2.1 = none := by rw [hM]
  refine (show Sx K cX10_layCalls 0 [some (.ref a0), some (.int a1), some (.int a2), some (.int a3), some (.int a4), none, none, none, none] [] h (f_X10_layCalls F h a0 a1 a2 a3 a4) (fun w => w = h1) from ?_) _ e rfl
  clear e
  unfold f_X10_layCalls
  refine S_bipush_ 105 (dc_X10_layCalls 0 rfl) rfl ?_
  refine S_bipush_ 17 (dc_X10_layCalls 1 rfl) rfl ?_
  refine S_iload_n (dc_X10_layCalls 2 rfl) rfl ?_
  refine S_imul (dc_X10_layCalls 3 rfl) ?_
  refine S_iadd (dc_X10_layCalls 4 rfl) ?_
  refine Sx.nameI (fun x7 n7 => ?_)
  refine S_istore (L' := [some (.ref a0), some (.int a1), some (.int a2), some (.int a3), some (.int a4), some (.int x7), none, none, none]) (dc_X10_layCalls 5 rfl) rfl ?_
  refine S_aload_n (dc_X10_layCalls 6 rfl) rfl ?_
  refine S_getA (dc_X10_layCalls 7 rfl) ho fl_X10_16_8_16 (fun _ _ => rfl) (fun x10 e10 => ?_)
  refine S_iload (dc_X10_layCalls 8 rfl) rfl ?_
  refine S_aload_n (dc_X10_layCalls 9 rfl) rfl ?_
  refine S_getA (dc_X10_layCalls 10 rfl) ho fl_X10_13_8_15 (fun _ _ => rfl) (fun x16 e16 => ?_)
  refine S_sipush_ 242 (dc_X10_layCalls 11 rfl) rfl ?_
  refine S_iald (dc_X10_layCalls 12 rfl) (fun x22 e22 => ?_)
  refine S_iast (dc_X10_layCalls 13 rfl) (fun h23 e23 => ?_)
  refine S_aload_n (dc_X10_layCalls 14 rfl) rfl ?_
  refine S_getA (dc_X10_layCalls 15 rfl) ho fl_X10_13_8_15 (fun _ _ => rfl) (fun x25 e25 => ?_)
  refine S_sipush_ 243 (dc_X10_layCalls 16 rfl) rfl ?_
  refine S_iald (dc_X10_layCalls 17 rfl) (fun x31 e31 => ?_)
  refine S_istore (L' := [some (.ref a0), some (.int a1), some (.int a2), some (.int a3), some (.int a4), some (.int x7), some (.int x31), none, none]) (dc_X10_layCalls 18 rfl) rfl ?_
  refine S_aload_n (dc_X10_layCalls 19 rfl) rfl ?_
  refine S_getA (dc_X10_layCalls 20 rfl) ho fl_X10_13_8_15 (fun _ _ => rfl) (fun x35 e35 => ?_)
  refine S_sipush_ 244 (dc_X10_layCalls 21 rfl) rfl ?_
  refine S_iald (dc_X10_layCalls 22 rfl) (fun x41 e41 => ?_)
  refine S_istore (L' := [some (.ref a0), some (.int a1), some (.int a2), some (.int a3), some (.int a4), some (.int x7), some (.int x31), some (.int x41), none]) (dc_X10_layCalls 23 rfl) rfl ?_
  refine S_iconst_ 0 (dc_X10_layCalls 24 rfl) rfl ?_
  refine S_istore (L' := [some (.ref a0), some (.int a1), some (.int a2), some (.int a3), some (.int a4), some (.int x7), some (.int x31), some (.int x41), some (.int 0)]) (dc_X10_layCalls 25 rfl) rfl ?_
  refine Sx.regK1 (pc2 := 155) (L2 := fun (h155_1 : e_H) => [none, none, none, none, none, none, none, none, none]) (st2 := fun (h155_1 : e_H) => []) (h2 := fun (h155_1 : e_H) => h155_1) ?_ (fun Q1 hK1 => ?_)
  · intro h155_1
    show Sx K cX10_layCalls 155 [none, none, none, none, none, none, none, none, none] [] h155_1 _ _
    exact S_vret (dc_X10_layCalls 88 rfl) hT (fun q => by cases q; exact hr)
  · have hK1 : ∀ (h155_1 : e_H), Sx K cX10_layCalls 155 [none, none, none, none, none, none, none, none, none] [] h155_1 (some h155_1) Q1 := hK1
    have ih1 : ∀ (n : Nat) (x6_47 : Int32) (x7_47 : Int32) (x8_47 : Int32) (h_47 : e_H), Sx K cX10_layCalls 47 [some (.ref a0), none, some (.int a2), some (.int a3), some (.int a4), some (.int x7), some (.int x6_47), some (.int x7_47), some (.int x8_47)] [] h_47 (lp_X10_layCalls_47 F a0 a2 a3 a4 x7 n x6_47 x7_47 x8_47 h_47) Q1 := by
      intro n
      induction n with
      | zero => intro x6_47 x7_47 x8_47 h_47; exact Sx.none
      | succ n ih1 =>
        intro x6_47 x7_47 x8_47 h_47
        rw [lp_X10_layCalls_47.eq_2]
        refine S_iload (dc_X10_layCalls 26 rfl) rfl ?_
        refine S_aload_n (dc_X10_layCalls 27 rfl) rfl ?_
        refine S_getA (dc_X10_layCalls 28 rfl) ho fl_X10_13_8_15 (fun _ _ => rfl) (fun x50 e50 => ?_)
        refine S_sipush_ 242 (dc_X10_layCalls 29 rfl) rfl ?_
        refine S_iald (dc_X10_layCalls 30 rfl) (fun x56 e56 => ?_)
        refine S_icmp_ge 155 (dc_X10_layCalls 31 rfl) rfl (fun c57 => ?_) (fun c57 => ?_)
        · refine Sx.cut [false, true, false, false, false, false, false, false, false] ?_
          exact hK1 h_47
        · refine S_aload_n (dc_X10_layCalls 32 rfl) rfl ?_
          refine S_getA (dc_X10_layCalls 33 rfl) ho fl_X10_16_8_16 (fun _ _ => rfl) (fun x61 e61 => ?_)
          refine S_iload (dc_X10_layCalls 34 rfl) rfl ?_
          refine S_iconst_ 1 (dc_X10_layCalls 35 rfl) rfl ?_
          refine S_iadd (dc_X10_layCalls 36 rfl) ?_
          refine S_iconst_ 2 (dc_X10_layCalls 37 rfl) rfl ?_
          refine S_iload (dc_X10_layCalls 38 rfl) rfl ?_
          refine S_imul (dc_X10_layCalls 39 rfl) ?_
          refine S_iadd (dc_X10_layCalls 40 rfl) ?_
          refine S_iload (dc_X10_layCalls 41 rfl) rfl ?_
          refine S_iast (dc_X10_layCalls 42 rfl) (fun h75 e75 => ?_)
          refine S_aload_n (dc_X10_layCalls 43 rfl) rfl ?_
          refine S_getA (dc_X10_layCalls 44 rfl) ho fl_X10_16_8_16 (fun _ _ => rfl) (fun x77 e77 => ?_)
          refine S_iload (dc_X10_layCalls 45 rfl) rfl ?_
          refine S_iconst_ 2 (dc_X10_layCalls 46 rfl) rfl ?_
          refine S_iadd (dc_X10_layCalls 47 rfl) ?_
          refine S_iconst_ 2 (dc_X10_layCalls 48 rfl) rfl ?_
          refine S_iload (dc_X10_layCalls 49 rfl) rfl ?_
          refine S_imul (dc_X10_layCalls 50 rfl) ?_
          refine S_iadd (dc_X10_layCalls 51 rfl) ?_
          refine S_iload (dc_X10_layCalls 52 rfl) rfl ?_
          refine S_iast (dc_X10_layCalls 53 rfl) (fun h91 e91 => ?_)
          refine S_iload (dc_X10_layCalls 54 rfl) rfl ?_
          refine S_iload (dc_X10_layCalls 55 rfl) rfl ?_
          refine S_iload_n (dc_X10_layCalls 56 rfl) rfl ?_
          refine Sx.regK1 (pc2 := 117) (L2 := fun (s117_2 : Int32) => [some (.ref a0), none, some (.int a2), some (.int a3), some (.int a4), some (.int x7), none, some (.int x7_47), some (.int x8_47)]) (st2 := fun (s117_2 : Int32) => [.int s117_2, .int x6_47]) (h2 := fun (s117_2 : Int32) => h91) ?_ (fun Q2 hK2 => ?_)
          · intro s117_2
            show Sx K cX10_layCalls 117 [some (.ref a0), none, some (.int a2), some (.int a3), some (.int a4), some (.int x7), none, some (.int x7_47), some (.int x8_47)] [.int s117_2, .int x6_47] h91 _ _
            refine S_iadd (dc_X10_layCalls 68 rfl) ?_
            refine Sx.nameI (fun x118 n118 => ?_)
            refine S_istore (L' := [some (.ref a0), none, some (.int a2), some (.int a3), some (.int a4), some (.int x7), some (.int x118), some (.int x7_47), some (.int x8_47)]) (dc_X10_layCalls 69 rfl) rfl ?_
            refine S_iload (dc_X10_layCalls 70 rfl) rfl ?_
            refine S_iload (dc_X10_layCalls 71 rfl) rfl ?_
            refine S_iload_n (dc_X10_layCalls 72 rfl) rfl ?_
            refine Sx.regK1 (pc2 := 146) (L2 := fun (s146_3 : Int32) => [some (.ref a0), none, some (.int a2), some (.int a3), some (.int a4), some (.int x7), some (.int x118), none, some (.int x8_47)]) (st2 := fun (s146_3 : Int32) => [.int s146_3, .int x7_47]) (h2 := fun (s146_3 : Int32) => h91) ?_ (fun Q3 hK3 => ?_)
            · intro s146_3
              show Sx K cX10_layCalls 146 [some (.ref a0), none, some (.int a2), some (.int a3), some (.int a4), some (.int x7), some (.int x118), none, some (.int x8_47)] [.int s146_3, .int x7_47] h91 _ _
              refine S_iadd (dc_X10_layCalls 84 rfl) ?_
              refine Sx.nameI (fun x147 n147 => ?_)
              refine S_istore (L' := [some (.ref a0), none, some (.int a2), some (.int a3), some (.int a4), some (.int x7), some (.int x118), some (.int x147), some (.int x8_47)]) (dc_X10_layCalls 85 rfl) rfl ?_
              refine S_iincN 1 (L' := fun x149 => [some (.ref a0), none, some (.int a2), some (.int a3), some (.int a4), some (.int x7), some (.int x118), some (.int x147), some (.int x149)]) (dc_X10_layCalls 86 rfl) rfl rfl (fun _ => rfl) (fun x149 n149 => ?_)
              refine S_goto 47 (dc_X10_layCalls 87 rfl) rfl ?_
              exact ih1 x118 x147 x149 h91
            · have hK3 : ∀ (s146_3 : Int32), Sx K cX10_layCalls 146 [some (.ref a0), none, some (.int a2), some (.int a3), some (.int a4), some (.int x7), some (.int x118), none, some (.int x8_47)] [.int s146_3, .int x7_47] h91 (some s146_3) Q3 := hK3
              refine S_icmp_ne 133 (dc_X10_layCalls 73 rfl) rfl (fun c125 => ?_) (fun c125 => ?_)
              · refine S_aload_n (dc_X10_layCalls 76 rfl) rfl ?_
                refine S_getA (dc_X10_layCalls 77 rfl) ho fl_X10_13_8_15 (fun _ _ => rfl) (fun x134 e134 => ?_)
                refine S_sipush_ 246 (dc_X10_layCalls 78 rfl) rfl ?_
                refine S_iconst_ 2 (dc_X10_layCalls 79 rfl) rfl ?_
                refine S_iload (dc_X10_layCalls 80 rfl) rfl ?_
                refine S_imul (dc_X10_layCalls 81 rfl) ?_
                refine S_iadd (dc_X10_layCalls 82 rfl) ?_
                refine S_iald (dc_X10_layCalls 83 rfl) (fun x145 e145 => ?_)
                refine Sx.cut [true, true, true, true, true, true, true, false, true] ?_
                exact hK3 x145
              · refine S_iload (dc_X10_layCalls 74 rfl) rfl ?_
                refine S_goto 146 (dc_X10_layCalls 75 rfl) rfl ?_
                refine Sx.cut [true, true, true, true, true, true, true, false, true] ?_
                exact hK3 a4
          · have hK2 : ∀ (s117_2 : Int32), Sx K cX10_layCalls 117 [some (.ref a0), none, some (.int a2), some (.int a3), some (.int a4), some (.int x7), none, some (.int x7_47), some (.int x8_47)] [.int s117_2, .int x6_47] h91 (some s117_2) Q2 := hK2
            refine S_icmp_ne 104 (dc_X10_layCalls 57 rfl) rfl (fun c97 => ?_) (fun c97 => ?_)
            · refine S_aload_n (dc_X10_layCalls 60 rfl) rfl ?_
              refine S_getA (dc_X10_layCalls 61 rfl) ho fl_X10_13_8_15 (fun _ _ => rfl) (fun x105 e105 => ?_)
              refine S_sipush_ 245 (dc_X10_layCalls 62 rfl) rfl ?_
              refine S_iconst_ 2 (dc_X10_layCalls 63 rfl) rfl ?_
              refine S_iload (dc_X10_layCalls 64 rfl) rfl ?_
              refine S_imul (dc_X10_layCalls 65 rfl) ?_
              refine S_iadd (dc_X10_layCalls 66 rfl) ?_
              refine S_iald (dc_X10_layCalls 67 rfl) (fun x116 e116 => ?_)
              refine Sx.cut [true, true, true, true, true, true, false, true, true] ?_
              exact hK2 x116
            · refine S_iload_n (dc_X10_layCalls 58 rfl) rfl ?_
              refine S_goto 117 (dc_X10_layCalls 59 rfl) rfl ?_
              refine Sx.cut [true, true, true, true, true, true, false, true, true] ?_
              exact hK2 a3
    refine Sx.cut [true, false, true, true, true, true, true, true, true] ?_
    exact ih1 F x31 x41 0 h23
abbrev cX10_mended : ByteArray := prog_18_method_103_code
def yX10_mended : MethodName := ⟨"PegBandsModel", "mended", "(I)I"⟩
def tb_X10_mended : List (Nat × Instr × Nat) := [(0, .aload_n 0, 1), (1, .iconst 0, 1), (2, .putfield 94, 3), (5, .aload_n 0, 1), (6, .getfield 13, 3), (9, .sipush 241, 3), (12, .iaload, 1), (13, .ifCond .eq 10, 3), (16, .aload_n 0, 1), (17, .invokevirtual 392, 3), (20, .ifCond .eq 5, 3), (23, .iconst (-1), 1), (24, .ireturn, 1), (25, .iconst 0, 1), (26, .istore_n 2, 1), (27, .iconst 0, 1), (28, .istore_n 3, 1), (29, .iload_n 3, 1), (30, .aload_n 0, 1), (31, .getfield 13, 3), (34, .sipush 242, 3), (37, .iaload, 1), (38, .if_icmp .ge 117, 3), (41, .aload_n 0, 1), (42, .getfield 13, 3), (45, .sipush 245, 3), (48, .iconst 2, 1), (49, .iload_n 3, 1), (50, .imul, 1), (51, .iadd, 1), (52, .iaload, 1), (53, .aload_n 0, 1), (54, .iconst 0, 1), (55, .invokevirtual 389, 3), (58, .isub, 1), (59, .istore 4, 2), (61, .aload_n 0, 1), (62, .getfield 13, 3), (65, .sipush 246, 3), (68, .iconst 2, 1), (69, .iload_n 3, 1), (70, .imul, 1), (71, .iadd, 1), (72, .iaload, 1), (73, .aload_n 0, 1), (74, .iconst 1, 1), (75, .invokevirtual 389, 3), (78, .isub, 1), (79, .istore 5, 2), (81, .iload 4, 2), (83, .bipush (-9), 2), (85, .bipush 9, 2), (87, .invokestatic 168, 3), (90, .ifCond .eq 59, 3), (93, .iload 5, 2), (95, .bipush (-9), 2), (97, .bipush 9, 2), (99, .invokestatic 168, 3), (102, .ifCond .ne 6, 3), (105, .goto 44, 3), (108, .aload_n 0, 1), (109, .invokevirtual 365, 3), (112, .aload_n 0, 1), (113, .bipush 8, 2), (115, .iload_n 3, 1), (116, .iload 4, 2), (118, .iload 5, 2), (120, .invokevirtual 395, 3), (123, .aload_n 0, 1), (124, .getfield 16, 3), (127, .bipush 8, 2), (129, .iconst 0, 1), (130, .invokestatic 246, 3), (133, .ifCond .eq 6, 3), (136, .goto 13, 3), (139, .iload_n 2, 1), (140, .iload_n 1, 1), (141, .if_icmp .ne 5, 3), (144, .iload_n 3, 1), (145, .ireturn, 1), (146, .iinc 2 1, 3), (149, .iinc 3 1, 3), (152, .goto (-123), 3), (155, .iload_n 1, 1), (156, .iconst (-1), 1), (157, .if_icmp .ne 7, 3), (160, .iload_n 2, 1), (161, .goto 4, 3), (164, .iconst (-1), 1), (165, .ireturn, 1)]
theorem tk_X10_mended : ∀ q ∈ tb_X10_mended, decode cX10_mended q.1 = .ok q.2 := by decide +kernel
theorem dc_X10_mended (k : Nat) {pc n : Nat} {i : Instr} (h : tb_X10_mended[k]? = some (pc, i, n)) : decode cX10_mended pc = .ok (i, n) := tk_X10_mended (pc, i, n) (List.mem_of_getElem? h)
abbrev mX10_mended : e_M := (yX10_mended, cX10_mended, 6, some (.int), [])
theorem ok_X10_mended : e_mok mX10_mended 1 := ⟨q2003, q119, by decide +kernel, fun sig h => by cases h; rfl⟩
def lp_X10_mended_29 (F : Nat) (a0 : Nat) (a1 : Int32) : Nat → Int32 → Int32 → e_H → Option (Except (Int32 × e_H) (Int32 × e_H))
  | 0, _, _, _ => none
  | n + 1, x2_29, x3_29, h_29 =>
    Option.bind (e_fA h_29 a0 8 15) (fun x31 =>
    Option.bind (e_aI h_29 x31 0 242) (fun x37 =>
    if x37 ≤ x3_29 then
      some (.ok (x2_29, h_29))
    else
      Option.bind (e_fA h_29 a0 8 15) (fun x42 =>
      Option.bind (e_aI h_29 x42 0 (245 + (2 * x3_29))) (fun x52 =>
      Option.bind (f_X10_sum F h_29 a0 0) (fun x55 =>
      Option.bind (some (x52 - x55)) (fun x59 =>
      Option.bind (e_fA h_29 a0 8 15) (fun x62 =>
      Option.bind (e_aI h_29 x62 0 (246 + (2 * x3_29))) (fun x72 =>
      Option.bind (f_X10_sum F h_29 a0 1) (fun x75 =>
      Option.bind (some (x72 - x75)) (fun x79 =>
      Option.bind (f_X10_isIn x59 (-9) 9) (fun x87 =>
      e_bE (
          if x87 = 0 then
            some (.ok (x2_29, h_29))
          else
            Option.bind (f_X10_isIn x79 (-9) 9) (fun x99 =>
            if x99 = 0 then
              some (.ok (x2_29, h_29))
            else
              Option.bind (f_X10_layRead F h_29 a0) (fun h109 =>
              Option.bind (e_is h109 a0 8) (fun _ =>
              Option.bind (f_X10_layCalls F h109 a0 8 x3_29 x59 x79) (fun h120 =>
              Option.bind (e_fA h120 a0 8 16) (fun x124 =>
              Option.bind (f_X10_wrong F h120 x124 8 0) (fun x130 =>
              if x130 = 0 then
                if x2_29 = a1 then
                  some (.error (.error (x3_29, h120)))
                else
                  Option.bind (some (x2_29 + 1)) (fun x146 =>
                  some (.ok (x146, h120)))
              else
                some (.ok (x2_29, h120))))))))
        : Option (Except (Except (Int32 × e_H) (Int32 × e_H)) (Int32 × e_H))) (e_u2 (fun x2_149_2 h149_2 =>
      Option.bind (some (x3_29 + 1)) (fun x149 =>
      lp_X10_mended_29 F a0 a1 n x2_149_2 x149 h149_2))))))))))))))
def f_X10_mended (F : Nat) (h : e_H) (a0 : Nat) (a1 : Int32) : Option (Int32 × e_H) :=
  Option.bind (e_gI h a0 8 0 0) (fun h2 =>
  Option.bind (e_fA h2 a0 8 15) (fun x6 =>
  Option.bind (e_aI h2 x6 0 241) (fun x12 =>
  if x12 = 0 then
    some ((-1), h2)
  else
    Option.bind (f_X10_doClose F h2 a0) (fun x17 =>
    if x17 = 0 then
      e_bE (
          lp_X10_mended_29 F a0 a1 F 0 0 h2
        : Option (Except (Int32 × e_H) (Int32 × e_H))) (e_u2 (fun x2_155_1 h155_1 =>
      if a1 = (-1) then
        some (x2_155_1, h155_1)
      else
        some ((-1), h155_1)))
    else
      some ((-1), h2)))))
set_option maxHeartbeats 4000000 in
set_option maxRecDepth 100000 in
theorem ct_X10_mended {l : Launch} {D : e_D} {B : Heap} {F : Nat} {d : Nat} {h : e_H} {a0 : Nat} {a1 : Int32} {v : Int32} {h1 : e_H} (hd : 8 ≤ d) (e : f_X10_mended F h a0 a1 = some (v, h1)) : e_Run l D B d mX10_mended [.ref a0, .int a1] h (.ok (some (.int v)), h1) := by
  refine e_start [some (.ref a0), some (.int a1), none, none, none, none] (by decide) rfl rfl rfl (Nat.le_of_ble_eq_true rfl) (fun K hl0 hD0 hB0 hM hd0 hr => ?_)
  subst hl0 hD0 hB0 hd0
  have ho : (k_M K).1.cls = "PegBandsModel" := by rw [hM]; rfl
  have hT : (k_M K).2.2.2.1 = some (.int) := by rw [hM]
  refine (show Sx K cX10_mended 0 [some (.ref a0), some (.int a1), none, none, none, none] [] h (f_X10_mended F h a0 a1) (fun w => w = (v, h1)) from ?_) _ e rfl
  clear e
  unfold f_X10_mended
  refine S_aload_n (dc_X10_mended 0 rfl) rfl ?_
  refine S_iconst_ 0 (dc_X10_mended 1 rfl) rfl ?_
  refine S_putI (dc_X10_mended 2 rfl) ho fl_X10_94_8_0 (fun _ _ => rfl) (Or.inl rfl) rfl rfl (fun h2 e2 => ?_)
  refine S_aload_n (dc_X10_mended 3 rfl) rfl ?_
  refine S_getA (dc_X10_mended 4 rfl) ho fl_X10_13_8_15 (fun _ _ => rfl) (fun x6 e6 => ?_)
  refine S_sipush_ 241 (dc_X10_mended 5 rfl) rfl ?_
  refine S_iald (dc_X10_mended 6 rfl) (fun x12 e12 => ?_)
  refine S_if_eq 23 (dc_X10_mended 7 rfl) rfl (fun c13 => ?_) (fun c13 => ?_)
  · refine S_iconst_ (-1) (dc_X10_mended 11 rfl) rfl ?_
    exact S_iret (dc_X10_mended 12 rfl) hT rfl (e_rqI hr)
  · refine S_aload_n (dc_X10_mended 8 rfl) rfl ?_
    refine S_roI (d := k_d K - 1) (e_callV (b := a0) (As := []) (rest := []) ok_X10_doClose rfl (Nat.le_of_ble_eq_true rfl) (dc_X10_mended 9 rfl) ho q1992 q1994 (show e_cl[8]? = some (RX10, TX10, 51) from rfl) (e_sel.of qs82) (e_fA_of e6).1 rfl (Nat.le_of_ble_eq_true rfl)) (by omega) (fun _ e => ct_X10_doClose (by omega) e) (fun x17 e17 => ?_)
    refine S_if_eq 25 (dc_X10_mended 10 rfl) rfl (fun c20 => ?_) (fun c20 => ?_)
    · refine S_iconst_ 0 (dc_X10_mended 13 rfl) rfl ?_
      refine S_istore_n (L' := [some (.ref a0), some (.int a1), some (.int 0), none, none, none]) (dc_X10_mended 14 rfl) rfl ?_
      refine S_iconst_ 0 (dc_X10_mended 15 rfl) rfl ?_
      refine S_istore_n (L' := [some (.ref a0), some (.int a1), some (.int 0), some (.int 0), none, none]) (dc_X10_mended 16 rfl) rfl ?_
      refine Sx.regKE2 (pc2 := 155) (L2 := fun (x2_155_1 : Int32) (h155_1 : e_H) => [none, some (.int a1), some (.int x2_155_1), none, none, none]) (st2 := fun (x2_155_1 : Int32) (h155_1 : e_H) => []) (h2 := fun (x2_155_1 : Int32) (h155_1 : e_H) => h155_1) ?_ (fun Q1 hK1 hE1 => ?_)
      · intro x2_155_1 h155_1
        show Sx K cX10_mended 155 [none, some (.int a1), some (.int x2_155_1), none, none, none] [] h155_1 _ _
        refine S_iload_n (dc_X10_mended 83 rfl) rfl ?_
        refine S_iconst_ (-1) (dc_X10_mended 84 rfl) rfl ?_
        refine S_icmp_ne 164 (dc_X10_mended 85 rfl) rfl (fun c157 => ?_) (fun c157 => ?_)
        · refine S_iconst_ (-1) (dc_X10_mended 88 rfl) rfl ?_
          exact S_iret (dc_X10_mended 89 rfl) hT rfl (e_rqI hr)
        · refine S_iload_n (dc_X10_mended 86 rfl) rfl ?_
          refine S_goto 165 (dc_X10_mended 87 rfl) rfl ?_
          exact S_iret (dc_X10_mended 89 rfl) hT rfl (e_rqI hr)
      · have hK1 : ∀ (x2_155_1 : Int32) (h155_1 : e_H), Sx K cX10_mended 155 [none, some (.int a1), some (.int x2_155_1), none, none, none] [] h155_1 (some (.ok (x2_155_1, h155_1))) Q1 := hK1
        have ih1 : ∀ (n : Nat) (x2_29 : Int32) (x3_29 : Int32) (h_29 : e_H), Sx K cX10_mended 29 [some (.ref a0), some (.int a1), some (.int x2_29), some (.int x3_29), none, none] [] h_29 (lp_X10_mended_29 F a0 a1 n x2_29 x3_29 h_29) Q1 := by
          intro n
          induction n with
          | zero => intro x2_29 x3_29 h_29; exact Sx.none
          | succ n ih1 =>
            intro x2_29 x3_29 h_29
            rw [lp_X10_mended_29.eq_2]
            refine S_iload_n (dc_X10_mended 17 rfl) rfl ?_
            refine S_aload_n (dc_X10_mended 18 rfl) rfl ?_
            refine S_getA (dc_X10_mended 19 rfl) ho fl_X10_13_8_15 (fun _ _ => rfl) (fun x31 e31 => ?_)
            refine S_sipush_ 242 (dc_X10_mended 20 rfl) rfl ?_
            refine S_iald (dc_X10_mended 21 rfl) (fun x37 e37 => ?_)
            refine S_icmp_ge 155 (dc_X10_mended 22 rfl) rfl (fun c38 => ?_) (fun c38 => ?_)
            · refine Sx.cut [false, true, true, false, true, true] ?_
              exact hK1 x2_29 h_29
            · refine S_aload_n (dc_X10_mended 23 rfl) rfl ?_
              refine S_getA (dc_X10_mended 24 rfl) ho fl_X10_13_8_15 (fun _ _ => rfl) (fun x42 e42 => ?_)
              refine S_sipush_ 245 (dc_X10_mended 25 rfl) rfl ?_
              refine S_iconst_ 2 (dc_X10_mended 26 rfl) rfl ?_
              refine S_iload_n (dc_X10_mended 27 rfl) rfl ?_
              refine S_imul (dc_X10_mended 28 rfl) ?_
              refine S_iadd (dc_X10_mended 29 rfl) ?_
              refine S_iald (dc_X10_mended 30 rfl) (fun x52 e52 => ?_)
              refine S_aload_n (dc_X10_mended 31 rfl) rfl ?_
              refine S_iconst_ 0 (dc_X10_mended 32 rfl) rfl ?_
              refine S_roI (d := k_d K - 1) (e_callV (b := a0) (As := [.int 0]) (rest := [.int x52]) ok_X10_sum rfl (Nat.le_of_ble_eq_true rfl) (dc_X10_mended 33 rfl) ho q1996 q1998 (show e_cl[8]? = some (RX10, TX10, 51) from rfl) (e_sel.of qs83) (e_fA_of e31).1 rfl (Nat.le_of_ble_eq_true rfl)) (by omega) (fun _ e => ct_X10_sum (by omega) e) (fun x55 e55 => ?_)
              refine S_isub (dc_X10_mended 34 rfl) ?_
              refine Sx.nameI (fun x59 n59 => ?_)
              refine S_istore (L' := [some (.ref a0), some (.int a1), some (.int x2_29), some (.int x3_29), some (.int x59), none]) (dc_X10_mended 35 rfl) rfl ?_
              refine S_aload_n (dc_X10_mended 36 rfl) rfl ?_
              refine S_getA (dc_X10_mended 37 rfl) ho fl_X10_13_8_15 (fun _ _ => rfl) (fun x62 e62 => ?_)
              refine S_sipush_ 246 (dc_X10_mended 38 rfl) rfl ?_
              refine S_iconst_ 2 (dc_X10_mended 39 rfl) rfl ?_
              refine S_iload_n (dc_X10_mended 40 rfl) rfl ?_
              refine S_imul (dc_X10_mended 41 rfl) ?_
              refine S_iadd (dc_X10_mended 42 rfl) ?_
              refine S_iald (dc_X10_mended 43 rfl) (fun x72 e72 => ?_)
              refine S_aload_n (dc_X10_mended 44 rfl) rfl ?_
              refine S_iconst_ 1 (dc_X10_mended 45 rfl) rfl ?_
              refine S_roI (d := k_d K - 1) (e_callV (b := a0) (As := [.int 1]) (rest := [.int x72]) ok_X10_sum rfl (Nat.le_of_ble_eq_true rfl) (dc_X10_mended 46 rfl) ho q1996 q1998 (show e_cl[8]? = some (RX10, TX10, 51) from rfl) (e_sel.of qs83) (e_fA_of e31).1 rfl (Nat.le_of_ble_eq_true rfl)) (by omega) (fun _ e => ct_X10_sum (by omega) e) (fun x75 e75 => ?_)
              refine S_isub (dc_X10_mended 47 rfl) ?_
              refine Sx.nameI (fun x79 n79 => ?_)
              refine S_istore (L' := [some (.ref a0), some (.int a1), some (.int x2_29), some (.int x3_29), some (.int x59), some (.int x79)]) (dc_X10_mended 48 rfl) rfl ?_
              refine S_iload (dc_X10_mended 49 rfl) rfl ?_
              refine S_bipush_ (-9) (dc_X10_mended 50 rfl) rfl ?_
              refine S_bipush_ 9 (dc_X10_mended 51 rfl) rfl ?_
              refine S_roI (d := k_d K - 1) (e_callS (As := [.int x59, .int (-9), .int 9]) (rest := []) ok_X10_isIn rfl (Nat.le_of_ble_eq_true rfl) (dc_X10_mended 52 rfl) ho q1699 q1700 rfl (Nat.le_of_ble_eq_true rfl)) (by omega) (fun _ e => ct_X10_isIn (by omega) e) (fun x87 e87 => ?_)
              refine Sx.regKE2 (pc2 := 149) (L2 := fun (x2_149_2 : Int32) (h149_2 : e_H) => [some (.ref a0), some (.int a1), some (.int x2_149_2), some (.int x3_29), none, none]) (st2 := fun (x2_149_2 : Int32) (h149_2 : e_H) => []) (h2 := fun (x2_149_2 : Int32) (h149_2 : e_H) => h149_2) ?_ (fun Q2 hK2 hE2 => ?_)
              · intro x2_149_2 h149_2
                show Sx K cX10_mended 149 [some (.ref a0), some (.int a1), some (.int x2_149_2), some (.int x3_29), none, none] [] h149_2 _ _
                refine S_iincN 1 (L' := fun x149 => [some (.ref a0), some (.int a1), some (.int x2_149_2), some (.int x149), none, none]) (dc_X10_mended 81 rfl) rfl rfl (fun _ => rfl) (fun x149 n149 => ?_)
                refine S_goto 29 (dc_X10_mended 82 rfl) rfl ?_
                exact ih1 x2_149_2 x149 h149_2
              · have hK2 : ∀ (x2_149_2 : Int32) (h149_2 : e_H), Sx K cX10_mended 149 [some (.ref a0), some (.int a1), some (.int x2_149_2), some (.int x3_29), none, none] [] h149_2 (some (.ok (x2_149_2, h149_2))) Q2 := hK2
                refine S_if_eq 149 (dc_X10_mended 53 rfl) rfl (fun c90 => ?_) (fun c90 => ?_)
                · refine Sx.cut [true, true, true, true, false, false] ?_
                  exact hK2 x2_29 h_29
                · refine S_iload (dc_X10_mended 54 rfl) rfl ?_
                  refine S_bipush_ (-9) (dc_X10_mended 55 rfl) rfl ?_
                  refine S_bipush_ 9 (dc_X10_mended 56 rfl) rfl ?_
                  refine S_roI (d := k_d K - 1) (e_callS (As := [.int x79, .int (-9), .int 9]) (rest := []) ok_X10_isIn rfl (Nat.le_of_ble_eq_true rfl) (dc_X10_mended 57 rfl) ho q1699 q1700 rfl (Nat.le_of_ble_eq_true rfl)) (by omega) (fun _ e => ct_X10_isIn (by omega) e) (fun x99 e99 => ?_)
                  refine S_if_ne 108 (dc_X10_mended 58 rfl) rfl (fun c102 => ?_) (fun c102 => ?_)
                  · refine S_aload_n (dc_X10_mended 60 rfl) rfl ?_
                    refine S_rwV (d := k_d K - 1) (e_callV (b := a0) (As := []) (rest := []) ok_X10_layRead rfl (Nat.le_of_ble_eq_true rfl) (dc_X10_mended 61 rfl) ho q1940 q1942 (show e_cl[8]? = some (RX10, TX10, 51) from rfl) (e_sel.of qs74) (e_fA_of e31).1 rfl (Nat.le_of_ble_eq_true rfl)) (by omega) (fun _ e => ct_X10_layRead (by omega) e) (fun h109 e109 => ?_)
                    refine S_aload_n (dc_X10_mended 62 rfl) rfl ?_
                    refine S_bipush_ 8 (dc_X10_mended 63 rfl) rfl ?_
                    refine S_iload_n (dc_X10_mended 64 rfl) rfl ?_
                    refine S_iload (dc_X10_mended 65 rfl) rfl ?_
                    refine S_iload (dc_X10_mended 66 rfl) rfl ?_
                    refine Sx.ask (fun _ i120 => ?_)
                    refine S_rwV (d := k_d K - 1) (e_callV (b := a0) (As := [.int 8, .int x3_29, .int x59, .int x79]) (rest := []) ok_X10_layCalls rfl (Nat.le_of_ble_eq_true rfl) (dc_X10_mended 67 rfl) ho q2004 q2006 (show e_cl[8]? = some (RX10, TX10, 51) from rfl) (e_sel.of qs84) (e_is_of i120) rfl (Nat.le_of_ble_eq_true rfl)) (by omega) (fun _ e => ct_X10_layCalls (by omega) e) (fun h120 e120 => ?_)
                    refine S_aload_n (dc_X10_mended 68 rfl) rfl ?_
                    refine S_getA (dc_X10_mended 69 rfl) ho fl_X10_16_8_16 (fun _ _ => rfl) (fun x124 e124 => ?_)
                    refine S_bipush_ 8 (dc_X10_mended 70 rfl) rfl ?_
                    refine S_iconst_ 0 (dc_X10_mended 71 rfl) rfl ?_
                    refine S_roI (d := k_d K - 1) (e_callS (As := [.ref x124, .int 8, .int 0]) (rest := []) ok_X10_wrong rfl (Nat.le_of_ble_eq_true rfl) (dc_X10_mended 72 rfl) ho q1729 q1730 rfl (Nat.le_of_ble_eq_true rfl)) (by omega) (fun _ e => ct_X10_wrong (by omega) e) (fun x130 e130 => ?_)
                    refine S_if_eq 139 (dc_X10_mended 73 rfl) rfl (fun c133 => ?_) (fun c133 => ?_)
                    · refine S_iload_n (dc_X10_mended 75 rfl) rfl ?_
                      refine S_iload_n (dc_X10_mended 76 rfl) rfl ?_
                      refine S_icmp_ne 146 (dc_X10_mended 77 rfl) rfl (fun c141 => ?_) (fun c141 => ?_)
                      · refine S_iincN 1 (L' := fun x146 => [some (.ref a0), some (.int a1), some (.int x146), some (.int x3_29), some (.int x59), some (.int x79)]) (dc_X10_mended 80 rfl) rfl rfl (fun _ => rfl) (fun x146 n146 => ?_)
                        refine Sx.cut [true, true, true, true, false, false] ?_
                        exact hK2 x146 h120
                      · refine S_iload_n (dc_X10_mended 78 rfl) rfl ?_
                        refine Sx.err hE2 ?_
                        refine Sx.err hE1 ?_
                        exact S_iret (dc_X10_mended 79 rfl) hT rfl (e_rqI hr)
                    · refine S_goto 149 (dc_X10_mended 74 rfl) rfl ?_
                      refine Sx.cut [true, true, true, true, false, false] ?_
                      exact hK2 x2_29 h120
                  · refine S_goto 149 (dc_X10_mended 59 rfl) rfl ?_
                    refine Sx.cut [true, true, true, true, false, false] ?_
                    exact hK2 x2_29 h_29
        exact ih1 F 0 0 h2
    · refine S_iconst_ (-1) (dc_X10_mended 11 rfl) rfl ?_
      exact S_iret (dc_X10_mended 12 rfl) hT rfl (e_rqI hr)
abbrev cX10_lay : ByteArray := prog_18_method_104_code
def yX10_lay : MethodName := ⟨"PegBandsModel", "lay", "()I"⟩
def tb_X10_lay : List (Nat × Instr × Nat) := [(0, .aload_n 0, 1), (1, .iconst 0, 1), (2, .putfield 94, 3), (5, .aload_n 0, 1), (6, .getfield 13, 3), (9, .sipush 241, 3), (12, .iaload, 1), (13, .ifCond .ne 5, 3), (16, .iconst (-1), 1), (17, .ireturn, 1), (18, .aload_n 0, 1), (19, .invokevirtual 392, 3), (22, .ifCond .ne 6, 3), (25, .bipush 6, 2), (27, .ireturn, 1), (28, .aload_n 0, 1), (29, .invokevirtual 365, 3), (32, .aload_n 0, 1), (33, .aload_n 0, 1), (34, .invokevirtual 276, 3), (37, .iconst (-1), 1), (38, .iconst 0, 1), (39, .iconst 0, 1), (40, .invokevirtual 395, 3), (43, .aload_n 0, 1), (44, .getfield 16, 3), (47, .aload_n 0, 1), (48, .invokevirtual 276, 3), (51, .aload_n 0, 1), (52, .invokevirtual 276, 3), (55, .invokestatic 246, 3), (58, .istore_n 1, 1), (59, .iload_n 1, 1), (60, .ifCond .eq 5, 3), (63, .iload_n 1, 1), (64, .ireturn, 1), (65, .aload_n 0, 1), (66, .invokevirtual 276, 3), (69, .bipush 8, 2), (71, .if_icmp .ne 6, 3), (74, .bipush 7, 2), (76, .ireturn, 1), (77, .aload_n 0, 1), (78, .invokevirtual 362, 3), (81, .iconst 0, 1), (82, .istore_n 2, 1), (83, .iload_n 2, 1), (84, .sipush 241, 3), (87, .if_icmp .ge 21, 3), (90, .aload_n 0, 1), (91, .getfield 13, 3), (94, .iload_n 2, 1), (95, .aload_n 0, 1), (96, .getfield 16, 3), (99, .iload_n 2, 1), (100, .iaload, 1), (101, .iastore, 1), (102, .iinc 2 1, 3), (105, .goto (-22), 3), (108, .aload_n 0, 1), (109, .getfield 28, 3), (112, .aload_n 0, 1), (113, .invokevirtual 276, 3), (116, .lconst 0, 1), (117, .lastore, 1), (118, .aload_n 0, 1), (119, .getfield 13, 3), (122, .iconst 4, 1), (123, .dup2, 1), (124, .iaload, 1), (125, .iconst 1, 1), (126, .iadd, 1), (127, .iastore, 1), (128, .iconst 0, 1), (129, .ireturn, 1)]
theorem tk_X10_lay : ∀ q ∈ tb_X10_lay, decode cX10_lay q.1 = .ok q.2 := by decide +kernel
theorem dc_X10_lay (k : Nat) {pc n : Nat} {i : Instr} (h : tb_X10_lay[k]? = some (pc, i, n)) : decode cX10_lay pc = .ok (i, n) := tk_X10_lay (pc, i, n) (List.mem_of_getElem? h)
abbrev mX10_lay : e_M := (yX10_lay, cX10_lay, 3, some (.int), [])
theorem ok_X10_lay : e_mok mX10_lay 0 := ⟨q2011, q119, by decide +kernel, fun sig h => by cases h; rfl⟩
def lp_X10_lay_83 (F : Nat) (a0 : Nat) : Nat → Int32 → e_H → Option (e_H)
  | 0, _, _ => none
  | n + 1, x2_83, h_83 =>
    if 241 ≤ x2_83 then
      some h_83
    else
      Option.bind (e_fA h_83 a0 8 15) (fun x91 =>
      Option.bind (e_fA h_83 a0 8 16) (fun x96 =>
      Option.bind (e_aI h_83 x96 0 x2_83) (fun x100 =>
      Option.bind (e_wI h_83 x91 0 x2_83 x100) (fun h101 =>
      Option.bind (some (x2_83 + 1)) (fun x102 =>
      lp_X10_lay_83 F a0 n x102 h101)))))
def f_X10_lay (F : Nat) (h : e_H) (a0 : Nat) : Option (Int32 × e_H) :=
  Option.bind (e_gI h a0 8 0 0) (fun h2 =>
  Option.bind (e_fA h2 a0 8 15) (fun x6 =>
  Option.bind (e_aI h2 x6 0 241) (fun x12 =>
  if x12 = 0 then
    some ((-1), h2)
  else
    Option.bind (f_X10_doClose F h2 a0) (fun x19 =>
    if x19 = 0 then
      some (6, h2)
    else
      Option.bind (f_X10_layRead F h2 a0) (fun h29 =>
      Option.bind (e_is h29 a0 8) (fun _ =>
      Option.bind (f_X10_bands h29 a0) (fun x34 =>
      Option.bind (f_X10_layCalls F h29 a0 x34 (-1) 0 0) (fun h40 =>
      Option.bind (e_fA h40 a0 8 16) (fun x44 =>
      Option.bind (f_X10_bands h40 a0) (fun x48 =>
      Option.bind (f_X10_bands h40 a0) (fun x52 =>
      Option.bind (f_X10_wrong F h40 x44 x48 x52) (fun x55 =>
      if x55 = 0 then
        Option.bind (f_X10_bands h40 a0) (fun x66 =>
        if x66 = 8 then
          some (7, h40)
        else
          Option.bind (f_X10_snapShot F h40 a0) (fun h78 =>
          Option.bind (
              lp_X10_lay_83 F a0 F 0 h78
            : Option (e_H)) (fun h108_1 =>
          Option.bind (e_fA h108_1 a0 8 20) (fun x109 =>
          Option.bind (f_X10_bands h108_1 a0) (fun x113 =>
          Option.bind (e_wJ h108_1 x109 3 x113 0) (fun h117 =>
          Option.bind (e_fA h117 a0 8 15) (fun x119 =>
          Option.bind (e_aI h117 x119 0 4) (fun x124 =>
          Option.bind (e_wI h117 x119 0 4 (x124 + 1)) (fun h127 =>
          some (0, h127))))))))))
      else
        some (x55, h40)))))))))))))
set_option maxHeartbeats 4000000 in
set_option maxRecDepth 100000 in
theorem ct_X10_lay {l : Launch} {D : e_D} {B : Heap} {F : Nat} {d : Nat} {h : e_H} {a0 : Nat} {v : Int32} {h1 : e_H} (hd : 8 ≤ d) (e : f_X10_lay F h a0 = some (v, h1)) : e_Run l D B d mX10_lay [.ref a0] h (.ok (some (.int v)), h1) := by
  refine e_start [some (.ref a0), none, none] (by decide) rfl rfl rfl (Nat.le_of_ble_eq_true rfl) (fun K hl0 hD0 hB0 hM hd0 hr => ?_)
  subst hl0 hD0 hB0 hd0
  have ho : (k_M K).1.cls = "PegBandsModel" := by rw [hM]; rfl
  have hT : (k_M K).2.2.2.1 = some (.int) := by rw [hM]
  refine (show Sx K cX10_lay 0 [some (.ref a0), none, none] [] h (f_X10_lay F h a0) (fun w => w = (v, h1)) from ?_) _ e rfl
  clear e
  unfold f_X10_lay
  refine S_aload_n (dc_X10_lay 0 rfl) rfl ?_
  refine S_iconst_ 0 (dc_X10_lay 1 rfl) rfl ?_
  refine S_putI (dc_X10_lay 2 rfl) ho fl_X10_94_8_0 (fun _ _ => rfl) (Or.inl rfl) rfl rfl (fun h2 e2 => ?_)
  refine S_aload_n (dc_X10_lay 3 rfl) rfl ?_
  refine S_getA (dc_X10_lay 4 rfl) ho fl_X10_13_8_15 (fun _ _ => rfl) (fun x6 e6 => ?_)
  refine S_sipush_ 241 (dc_X10_lay 5 rfl) rfl ?_
  refine S_iald (dc_X10_lay 6 rfl) (fun x12 e12 => ?_)
  refine S_if_ne 18 (dc_X10_lay 7 rfl) rfl (fun c13 => ?_) (fun c13 => ?_)
  · refine S_aload_n (dc_X10_lay 10 rfl) rfl ?_
    refine S_roI (d := k_d K - 1) (e_callV (b := a0) (As := []) (rest := []) ok_X10_doClose rfl (Nat.le_of_ble_eq_true rfl) (dc_X10_lay 11 rfl) ho q1992 q1994 (show e_cl[8]? = some (RX10, TX10, 51) from rfl) (e_sel.of qs82) (e_fA_of e6).1 rfl (Nat.le_of_ble_eq_true rfl)) (by omega) (fun _ e => ct_X10_doClose (by omega) e) (fun x19 e19 => ?_)
    refine S_if_ne 28 (dc_X10_lay 12 rfl) rfl (fun c22 => ?_) (fun c22 => ?_)
    · refine S_aload_n (dc_X10_lay 15 rfl) rfl ?_
      refine S_rwV (d := k_d K - 1) (e_callV (b := a0) (As := []) (rest := []) ok_X10_layRead rfl (Nat.le_of_ble_eq_true rfl) (dc_X10_lay 16 rfl) ho q1940 q1942 (show e_cl[8]? = some (RX10, TX10, 51) from rfl) (e_sel.of qs74) (e_fA_of e6).1 rfl (Nat.le_of_ble_eq_true rfl)) (by omega) (fun _ e => ct_X10_layRead (by omega) e) (fun h29 e29 => ?_)
      refine S_aload_n (dc_X10_lay 17 rfl) rfl ?_
      refine S_aload_n (dc_X10_lay 18 rfl) rfl ?_
      refine Sx.ask (fun _ i34 => ?_)
      refine S_roI (d := k_d K - 1) (e_callV (b := a0) (As := []) (rest := [.ref a0]) ok_X10_bands rfl (Nat.le_of_ble_eq_true rfl) (dc_X10_lay 19 rfl) ho q1795 q1797 (show e_cl[8]? = some (RX10, TX10, 51) from rfl) (e_sel.of qs53) (e_is_of i34) rfl (Nat.le_of_ble_eq_true rfl)) (by omega) (fun _ e => ct_X10_bands (by omega) e) (fun x34 e34 => ?_)
      refine S_iconst_ (-1) (dc_X10_lay 20 rfl) rfl ?_
      refine S_iconst_ 0 (dc_X10_lay 21 rfl) rfl ?_
      refine S_iconst_ 0 (dc_X10_lay 22 rfl) rfl ?_
      refine S_rwV (d := k_d K - 1) (e_callV (b := a0) (As := [.int x34, .int (-1), .int 0, .int 0]) (rest := []) ok_X10_layCalls rfl (Nat.le_of_ble_eq_true rfl) (dc_X10_lay 23 rfl) ho q2004 q2006 (show e_cl[8]? = some (RX10, TX10, 51) from rfl) (e_sel.of qs84) (e_is_of i34) rfl (Nat.le_of_ble_eq_true rfl)) (by omega) (fun _ e => ct_X10_layCalls (by omega) e) (fun h40 e40 => ?_)
      refine S_aload_n (dc_X10_lay 24 rfl) rfl ?_
      refine S_getA (dc_X10_lay 25 rfl) ho fl_X10_16_8_16 (fun _ _ => rfl) (fun x44 e44 => ?_)
      refine S_aload_n (dc_X10_lay 26 rfl) rfl ?_
      refine S_roI (d := k_d K - 1) (e_callV (b := a0) (As := []) (rest := [.ref x44]) ok_X10_bands rfl (Nat.le_of_ble_eq_true rfl) (dc_X10_lay 27 rfl) ho q1795 q1797 (show e_cl[8]? = some (RX10, TX10, 51) from rfl) (e_sel.of qs53) (e_fA_of e44).1 rfl (Nat.le_of_ble_eq_true rfl)) (by omega) (fun _ e => ct_X10_bands (by omega) e) (fun x48 e48 => ?_)
      refine S_aload_n (dc_X10_lay 28 rfl) rfl ?_
      refine S_roI (d := k_d K - 1) (e_callV (b := a0) (As := []) (rest := [.int x48, .ref x44]) ok_X10_bands rfl (Nat.le_of_ble_eq_true rfl) (dc_X10_lay 29 rfl) ho q1795 q1797 (show e_cl[8]? = some (RX10, TX10, 51) from rfl) (e_sel.of qs53) (e_fA_of e44).1 rfl (Nat.le_of_ble_eq_true rfl)) (by omega) (fun _ e => ct_X10_bands (by omega) e) (fun x52 e52 => ?_)
      refine S_roI (d := k_d K - 1) (e_callS (As := [.ref x44, .int x48, .int x52]) (rest := []) ok_X10_wrong rfl (Nat.le_of_ble_eq_true rfl) (dc_X10_lay 30 rfl) ho q1729 q1730 rfl (Nat.le_of_ble_eq_true rfl)) (by omega) (fun _ e => ct_X10_wrong (by omega) e) (fun x55 e55 => ?_)
      refine S_istore_n (L' := [some (.ref a0), some (.int x55), none]) (dc_X10_lay 31 rfl) rfl ?_
      refine S_iload_n (dc_X10_lay 32 rfl) rfl ?_
      refine S_if_eq 65 (dc_X10_lay 33 rfl) rfl (fun c60 => ?_) (fun c60 => ?_)
      · refine S_aload_n (dc_X10_lay 36 rfl) rfl ?_
        refine S_roI (d := k_d K - 1) (e_callV (b := a0) (As := []) (rest := []) ok_X10_bands rfl (Nat.le_of_ble_eq_true rfl) (dc_X10_lay 37 rfl) ho q1795 q1797 (show e_cl[8]? = some (RX10, TX10, 51) from rfl) (e_sel.of qs53) (e_fA_of e44).1 rfl (Nat.le_of_ble_eq_true rfl)) (by omega) (fun _ e => ct_X10_bands (by omega) e) (fun x66 e66 => ?_)
        refine S_bipush_ 8 (dc_X10_lay 38 rfl) rfl ?_
        refine S_icmp_ne 77 (dc_X10_lay 39 rfl) rfl (fun c71 => ?_) (fun c71 => ?_)
        · refine S_aload_n (dc_X10_lay 42 rfl) rfl ?_
          refine S_rwV (d := k_d K - 1) (e_callV (b := a0) (As := []) (rest := []) ok_X10_snapShot rfl (Nat.le_of_ble_eq_true rfl) (dc_X10_lay 43 rfl) ho q1948 q1950 (show e_cl[8]? = some (RX10, TX10, 51) from rfl) (e_sel.of qs76) (e_fA_of e44).1 rfl (Nat.le_of_ble_eq_true rfl)) (by omega) (fun _ e => ct_X10_snapShot (by omega) e) (fun h78 e78 => ?_)
          refine S_iconst_ 0 (dc_X10_lay 44 rfl) rfl ?_
          refine S_istore_n (L' := [some (.ref a0), some (.int x55), some (.int 0)]) (dc_X10_lay 45 rfl) rfl ?_
          refine Sx.regK1 (pc2 := 108) (L2 := fun (h108_1 : e_H) => [some (.ref a0), none, none]) (st2 := fun (h108_1 : e_H) => []) (h2 := fun (h108_1 : e_H) => h108_1) ?_ (fun Q1 hK1 => ?_)
          · intro h108_1
            show Sx K cX10_lay 108 [some (.ref a0), none, none] [] h108_1 _ _
            refine S_aload_n (dc_X10_lay 59 rfl) rfl ?_
            refine S_getA (dc_X10_lay 60 rfl) ho fl_X10_28_8_20 (fun _ _ => rfl) (fun x109 e109 => ?_)
            refine S_aload_n (dc_X10_lay 61 rfl) rfl ?_
            refine S_roI (d := k_d K - 1) (e_callV (b := a0) (As := []) (rest := [.ref x109]) ok_X10_bands rfl (Nat.le_of_ble_eq_true rfl) (dc_X10_lay 62 rfl) ho q1795 q1797 (show e_cl[8]? = some (RX10, TX10, 51) from rfl) (e_sel.of qs53) (e_fA_of e109).1 rfl (Nat.le_of_ble_eq_true rfl)) (by omega) (fun _ e => ct_X10_bands (by omega) e) (fun x113 e113 => ?_)
            refine S_lconst_ 0 (dc_X10_lay 63 rfl) rfl ?_
            refine S_last (dc_X10_lay 64 rfl) (fun h117 e117 => ?_)
            refine S_aload_n (dc_X10_lay 65 rfl) rfl ?_
            refine S_getA (dc_X10_lay 66 rfl) ho fl_X10_13_8_15 (fun _ _ => rfl) (fun x119 e119 => ?_)
            refine S_iconst_ 4 (dc_X10_lay 67 rfl) rfl ?_
            refine S_dup2 (dc_X10_lay 68 rfl) rfl rfl ?_
            refine S_iald (dc_X10_lay 69 rfl) (fun x124 e124 => ?_)
            refine S_iconst_ 1 (dc_X10_lay 70 rfl) rfl ?_
            refine S_iadd (dc_X10_lay 71 rfl) ?_
            refine S_iast (dc_X10_lay 72 rfl) (fun h127 e127 => ?_)
            refine S_iconst_ 0 (dc_X10_lay 73 rfl) rfl ?_
            exact S_iret (dc_X10_lay 74 rfl) hT rfl (e_rqI hr)
          · have hK1 : ∀ (h108_1 : e_H), Sx K cX10_lay 108 [some (.ref a0), none, none] [] h108_1 (some h108_1) Q1 := hK1
            have ih1 : ∀ (n : Nat) (x2_83 : Int32) (h_83 : e_H), Sx K cX10_lay 83 [some (.ref a0), none, some (.int x2_83)] [] h_83 (lp_X10_lay_83 F a0 n x2_83 h_83) Q1 := by
              intro n
              induction n with
              | zero => intro x2_83 h_83; exact Sx.none
              | succ n ih1 =>
                intro x2_83 h_83
                rw [lp_X10_lay_83.eq_2]
                refine S_iload_n (dc_X10_lay 46 rfl) rfl ?_
                refine S_sipush_ 241 (dc_X10_lay 47 rfl) rfl ?_
                refine S_icmp_ge 108 (dc_X10_lay 48 rfl) rfl (fun c87 => ?_) (fun c87 => ?_)
                · refine Sx.cut [true, true, false] ?_
                  exact hK1 h_83
                · refine S_aload_n (dc_X10_lay 49 rfl) rfl ?_
                  refine S_getA (dc_X10_lay 50 rfl) ho fl_X10_13_8_15 (fun _ _ => rfl) (fun x91 e91 => ?_)
                  refine S_iload_n (dc_X10_lay 51 rfl) rfl ?_
                  refine S_aload_n (dc_X10_lay 52 rfl) rfl ?_
                  refine S_getA (dc_X10_lay 53 rfl) ho fl_X10_16_8_16 (fun _ _ => rfl) (fun x96 e96 => ?_)
                  refine S_iload_n (dc_X10_lay 54 rfl) rfl ?_
                  refine S_iald (dc_X10_lay 55 rfl) (fun x100 e100 => ?_)
                  refine S_iast (dc_X10_lay 56 rfl) (fun h101 e101 => ?_)
                  refine S_iincN 1 (L' := fun x102 => [some (.ref a0), none, some (.int x102)]) (dc_X10_lay 57 rfl) rfl rfl (fun _ => rfl) (fun x102 n102 => ?_)
                  refine S_goto 83 (dc_X10_lay 58 rfl) rfl ?_
                  exact ih1 x102 h101
            refine Sx.cut [true, false, true] ?_
            exact ih1 F 0 h78
        · refine S_bipush_ 7 (dc_X10_lay 40 rfl) rfl ?_
          exact S_iret (dc_X10_lay 41 rfl) hT rfl (e_rqI hr)
      · refine S_iload_n (dc_X10_lay 34 rfl) rfl ?_
        exact S_iret (dc_X10_lay 35 rfl) hT rfl (e_rqI hr)
    · refine S_bipush_ 6 (dc_X10_lay 13 rfl) rfl ?_
      exact S_iret (dc_X10_lay 14 rfl) hT rfl (e_rqI hr)
  · refine S_iconst_ (-1) (dc_X10_lay 8 rfl) rfl ?_
    exact S_iret (dc_X10_lay 9 rfl) hT rfl (e_rqI hr)
abbrev cX10_put : ByteArray := prog_18_method_105_code
def yX10_put : MethodName := ⟨"PegBandsModel", "put", "(I)V"⟩
def tb_X10_put : List (Nat × Instr × Nat) := [(0, .aload_n 0, 1), (1, .getfield 66, 3), (4, .aload_n 0, 1), (5, .getfield 399, 3), (8, .iload_n 1, 1), (9, .iastore, 1), (10, .aload_n 0, 1), (11, .dup, 1), (12, .getfield 399, 3), (15, .iconst 1, 1), (16, .iadd, 1), (17, .putfield 399, 3), (20, .return_, 1)]
theorem tk_X10_put : ∀ q ∈ tb_X10_put, decode cX10_put q.1 = .ok q.2 := by decide +kernel
theorem dc_X10_put (k : Nat) {pc n : Nat} {i : Instr} (h : tb_X10_put[k]? = some (pc, i, n)) : decode cX10_put pc = .ok (i, n) := tk_X10_put (pc, i, n) (List.mem_of_getElem? h)
abbrev mX10_put : e_M := (yX10_put, cX10_put, 2, none, [])
theorem ok_X10_put : e_mok mX10_put 1 := ⟨q2019, q119, by decide +kernel, fun sig h => by cases h; rfl⟩
theorem fl_X10_399_8_36 : e_FL "PegBandsModel" 399 8 36 := ⟨_, rfl, by decide, Or.inl q1507⟩
def f_X10_put (h : e_H) (a0 : Nat) (a1 : Int32) : Option e_H :=
  Option.bind (e_fA h a0 8 35) (fun x1 =>
  Option.bind (e_fI h a0 8 36) (fun x5 =>
  Option.bind (e_wI h x1 0 x5 a1) (fun h9 =>
  Option.bind (e_fI h9 a0 8 36) (fun x12 =>
  Option.bind (e_gI h9 a0 8 36 (x12 + 1)) (fun h17 =>
  some h17)))))
set_option maxHeartbeats 4000000 in
set_option maxRecDepth 100000 in
theorem ct_X10_put {l : Launch} {D : e_D} {B : Heap} {d : Nat} {h : e_H} {a0 : Nat} {a1 : Int32} {h1 : e_H} (hd : 1 ≤ d) (e : f_X10_put h a0 a1 = some h1) : e_Run l D B d mX10_put [.ref a0, .int a1] h (.ok none, h1) := by
  refine e_start [some (.ref a0), some (.int a1)] (by decide) rfl rfl rfl (Nat.le_of_ble_eq_true rfl) (fun K hl0 hD0 hB0 hM hd0 hr => ?_)
  subst hl0 hD0 hB0 hd0
  have ho : (k_M K).1.cls = "PegBandsModel" := by rw [hM]; rfl
  have hT : (k_M K).2.2.2.1 = none := by rw [hM]
  refine (show Sx K cX10_put 0 [some (.ref a0), some (.int a1)] [] h (f_X10_put h a0 a1) (fun w => w = h1) from ?_) _ e rfl
  clear e
  unfold f_X10_put
  refine S_aload_n (dc_X10_put 0 rfl) rfl ?_
  refine S_getA (dc_X10_put 1 rfl) ho fl_X10_66_8_35 (fun _ _ => rfl) (fun x1 e1 => ?_)
  refine S_aload_n (dc_X10_put 2 rfl) rfl ?_
  refine S_getI (dc_X10_put 3 rfl) ho fl_X10_399_8_36 (fun _ _ => rfl) (fun x5 e5 => ?_)
  refine S_iload_n (dc_X10_put 4 rfl) rfl ?_
  refine S_iast (dc_X10_put 5 rfl) (fun h9 e9 => ?_)
  refine S_aload_n (dc_X10_put 6 rfl) rfl ?_
  refine S_dup (dc_X10_put 7 rfl) rfl ?_
  refine S_getI (dc_X10_put 8 rfl) ho fl_X10_399_8_36 (fun _ _ => rfl) (fun x12 e12 => ?_)
  refine S_iconst_ 1 (dc_X10_put 9 rfl) rfl ?_
  refine S_iadd (dc_X10_put 10 rfl) ?_
  refine S_putI (dc_X10_put 11 rfl) ho fl_X10_399_8_36 (fun _ _ => rfl) (Or.inl rfl) rfl rfl (fun h17 e17 => ?_)
  exact S_vret (dc_X10_put 12 rfl) hT (fun q => by cases q; exact hr)
abbrev cX10_putSigned : ByteArray := prog_18_method_106_code
def yX10_putSigned : MethodName := ⟨"PegBandsModel", "putSigned", "(I)V"⟩
def tb_X10_putSigned : List (Nat × Instr × Nat) := [(0, .aload_n 0, 1), (1, .bipush 32, 2), (3, .invokevirtual 402, 3), (6, .iload_n 1, 1), (7, .ifCond .ge 9, 3), (10, .aload_n 0, 1), (11, .bipush 45, 2), (13, .invokevirtual 402, 3), (16, .aload_n 0, 1), (17, .bipush 48, 2), (19, .iload_n 1, 1), (20, .invokestatic 105, 3), (23, .iadd, 1), (24, .invokevirtual 402, 3), (27, .return_, 1)]
theorem tk_X10_putSigned : ∀ q ∈ tb_X10_putSigned, decode cX10_putSigned q.1 = .ok q.2 := by decide +kernel
theorem dc_X10_putSigned (k : Nat) {pc n : Nat} {i : Instr} (h : tb_X10_putSigned[k]? = some (pc, i, n)) : decode cX10_putSigned pc = .ok (i, n) := tk_X10_putSigned (pc, i, n) (List.mem_of_getElem? h)
abbrev mX10_putSigned : e_M := (yX10_putSigned, cX10_putSigned, 2, none, [])
theorem ok_X10_putSigned : e_mok mX10_putSigned 1 := ⟨q2023, q119, by decide +kernel, fun sig h => by cases h; rfl⟩
def f_X10_putSigned (h : e_H) (a0 : Nat) (a1 : Int32) : Option e_H :=
  Option.bind (e_is h a0 8) (fun _ =>
  Option.bind (f_X10_put h a0 32) (fun h3 =>
  Option.bind (
      if 0 ≤ a1 then
        some h3
      else
        Option.bind (e_is h3 a0 8) (fun _ =>
        Option.bind (f_X10_put h3 a0 45) (fun h13 =>
        some h13))
    : Option (e_H)) (fun h16_1 =>
  Option.bind (f_X10_size a1) (fun x20 =>
  Option.bind (e_is h16_1 a0 8) (fun _ =>
  Option.bind (f_X10_put h16_1 a0 (48 + x20)) (fun h24 =>
  some h24))))))
set_option maxHeartbeats 4000000 in
set_option maxRecDepth 100000 in
theorem ct_X10_putSigned {l : Launch} {D : e_D} {B : Heap} {d : Nat} {h : e_H} {a0 : Nat} {a1 : Int32} {h1 : e_H} (hd : 2 ≤ d) (e : f_X10_putSigned h a0 a1 = some h1) : e_Run l D B d mX10_putSigned [.ref a0, .int a1] h (.ok none, h1) := by
  refine e_start [some (.ref a0), some (.int a1)] (by decide) rfl rfl rfl (Nat.le_of_ble_eq_true rfl) (fun K hl0 hD0 hB0 hM hd0 hr => ?_)
  subst hl0 hD0 hB0 hd0
  have ho : (k_M K).1.cls = "PegBandsModel" := by rw [hM]; rfl
  have hT : (k_M K).2.2.2.1 = none := by rw [hM]
  refine (show Sx K cX10_putSigned 0 [some (.ref a0), some (.int a1)] [] h (f_X10_putSigned h a0 a1) (fun w => w = h1) from ?_) _ e rfl
  clear e
  unfold f_X10_putSigned
  refine S_aload_n (dc_X10_putSigned 0 rfl) rfl ?_
  refine S_bipush_ 32 (dc_X10_putSigned 1 rfl) rfl ?_
  refine Sx.ask (fun _ i3 => ?_)
  refine S_rwV (d := k_d K - 1) (e_callV (b := a0) (As := [.int 32]) (rest := []) ok_X10_put rfl (Nat.le_of_ble_eq_true rfl) (dc_X10_putSigned 2 rfl) ho q2016 q2018 (show e_cl[8]? = some (RX10, TX10, 51) from rfl) (e_sel.of qs85) (e_is_of i3) rfl (Nat.le_of_ble_eq_true rfl)) (by omega) (fun _ e => ct_X10_put (by omega) e) (fun h3 e3 => ?_)
  refine S_iload_n (dc_X10_putSigned 3 rfl) rfl ?_
  refine Sx.regK1 (pc2 := 16) (L2 := fun (h16_1 : e_H) => [some (.ref a0), some (.int a1)]) (st2 := fun (h16_1 : e_H) => []) (h2 := fun (h16_1 : e_H) => h16_1) ?_ (fun Q1 hK1 => ?_)
  · intro h16_1
    show Sx K cX10_putSigned 16 [some (.ref a0), some (.int a1)] [] h16_1 _ _
    refine S_aload_n (dc_X10_putSigned 8 rfl) rfl ?_
    refine S_bipush_ 48 (dc_X10_putSigned 9 rfl) rfl ?_
    refine S_iload_n (dc_X10_putSigned 10 rfl) rfl ?_
    refine S_roI (d := k_d K - 1) (e_callS (As := [.int a1]) (rest := [.int 48, .ref a0]) ok_X10_size rfl (Nat.le_of_ble_eq_true rfl) (dc_X10_putSigned 11 rfl) ho q1823 q1824 rfl (Nat.le_of_ble_eq_true rfl)) (by omega) (fun _ e => ct_X10_size (by omega) e) (fun x20 e20 => ?_)
    refine S_iadd (dc_X10_putSigned 12 rfl) ?_
    refine Sx.ask (fun _ i24 => ?_)
    refine S_rwV (d := k_d K - 1) (e_callV (b := a0) (As := [.int (48 + x20)]) (rest := []) ok_X10_put rfl (Nat.le_of_ble_eq_true rfl) (dc_X10_putSigned 13 rfl) ho q2016 q2018 (show e_cl[8]? = some (RX10, TX10, 51) from rfl) (e_sel.of qs85) (e_is_of i24) rfl (Nat.le_of_ble_eq_true rfl)) (by omega) (fun _ e => ct_X10_put (by omega) e) (fun h24 e24 => ?_)
    exact S_vret (dc_X10_putSigned 14 rfl) hT (fun q => by cases q; exact hr)
  · have hK1 : ∀ (h16_1 : e_H), Sx K cX10_putSigned 16 [some (.ref a0), some (.int a1)] [] h16_1 (some h16_1) Q1 := hK1
    refine S_if_ge 16 (dc_X10_putSigned 4 rfl) rfl (fun c7 => ?_) (fun c7 => ?_)
    · exact hK1 h3
    · refine S_aload_n (dc_X10_putSigned 5 rfl) rfl ?_
      refine S_bipush_ 45 (dc_X10_putSigned 6 rfl) rfl ?_
      refine Sx.ask (fun _ i13 => ?_)
      refine S_rwV (d := k_d K - 1) (e_callV (b := a0) (As := [.int 45]) (rest := []) ok_X10_put rfl (Nat.le_of_ble_eq_true rfl) (dc_X10_putSigned 7 rfl) ho q2016 q2018 (show e_cl[8]? = some (RX10, TX10, 51) from rfl) (e_sel.of qs85) (e_is_of i13) rfl (Nat.le_of_ble_eq_true rfl)) (by omega) (fun _ e => ct_X10_put (by omega) e) (fun h13 e13 => ?_)
      exact hK1 h13
abbrev cX10_write : ByteArray := prog_18_method_107_code
def yX10_write : MethodName := ⟨"PegBandsModel", "write", "(I)I"⟩
def tb_X10_write : List (Nat × Instr × Nat) := [(0, .aload_n 0, 1), (1, .iconst 0, 1), (2, .putfield 94, 3), (5, .aload_n 0, 1), (6, .iload_n 1, 1), (7, .invokevirtual 304, 3), (10, .ifCond .ne 5, 3), (13, .iconst (-1), 1), (14, .ireturn, 1), (15, .aload_n 0, 1), (16, .iload_n 1, 1), (17, .invokevirtual 279, 3), (20, .istore_n 2, 1), (21, .iconst 0, 1), (22, .istore_n 3, 1), (23, .iconst 0, 1), (24, .istore 4, 2), (26, .iload 4, 2), (28, .iload_n 2, 1), (29, .if_icmp .ge 53, 3), (32, .iload_n 3, 1), (33, .aload_n 0, 1), (34, .iload_n 1, 1), (35, .iload 4, 2), (37, .iconst 1, 1), (38, .iadd, 1), (39, .invokevirtual 285, 3), (42, .aload_n 0, 1), (43, .iload_n 1, 1), (44, .iload 4, 2), (46, .invokevirtual 285, 3), (49, .isub, 1), (50, .invokestatic 189, 3), (53, .aload_n 0, 1), (54, .iload_n 1, 1), (55, .iload 4, 2), (57, .iconst 1, 1), (58, .iadd, 1), (59, .invokevirtual 289, 3), (62, .aload_n 0, 1), (63, .iload_n 1, 1), (64, .iload 4, 2), (66, .invokevirtual 289, 3), (69, .isub, 1), (70, .invokestatic 189, 3), (73, .iadd, 1), (74, .iadd, 1), (75, .istore_n 3, 1), (76, .iinc 4 1, 3), (79, .goto (-53), 3), (82, .iload_n 3, 1), (83, .ifCond .lt 7, 3), (86, .iconst 1, 1), (87, .goto 4, 3), (90, .iconst (-1), 1), (91, .istore 4, 2), (93, .aload_n 0, 1), (94, .iconst 0, 1), (95, .putfield 399, 3), (98, .aload_n 0, 1), (99, .bipush 97, 2), (101, .invokevirtual 402, 3), (104, .aload_n 0, 1), (105, .bipush 116, 2), (107, .invokevirtual 402, 3), (110, .aload_n 0, 1), (111, .aload_n 0, 1), (112, .iload_n 1, 1), (113, .iconst 0, 1), (114, .invokevirtual 285, 3), (117, .invokevirtual 405, 3), (120, .aload_n 0, 1), (121, .aload_n 0, 1), (122, .iload_n 1, 1), (123, .iconst 0, 1), (124, .invokevirtual 289, 3), (127, .invokevirtual 405, 3), (130, .aload_n 0, 1), (131, .bipush 59, 2), (133, .invokevirtual 402, 3), (136, .iconst 0, 1), (137, .istore 5, 2), (139, .iload 5, 2), (141, .iload_n 2, 1), (142, .if_icmp .ge 103, 3), (145, .iload 4, 2), (147, .ifCond .le 8, 3), (150, .iload 5, 2), (152, .goto 9, 3), (155, .iload_n 2, 1), (156, .iload 5, 2), (158, .isub, 1), (159, .iload_n 2, 1), (160, .irem, 1), (161, .istore 6, 2), (163, .iload 4, 2), (165, .ifCond .le 10, 3), (168, .iload 5, 2), (170, .iconst 1, 1), (171, .iadd, 1), (172, .goto 9, 3), (175, .iload_n 2, 1), (176, .iload 5, 2), (178, .isub, 1), (179, .iconst 1, 1), (180, .isub, 1), (181, .istore 7, 2), (183, .aload_n 0, 1), (184, .bipush 98, 2), (186, .invokevirtual 402, 3), (189, .aload_n 0, 1), (190, .bipush 121, 2), (192, .invokevirtual 402, 3), (195, .aload_n 0, 1), (196, .aload_n 0, 1), (197, .iload_n 1, 1), (198, .iload 7, 2), (200, .invokevirtual 285, 3), (203, .aload_n 0, 1), (204, .iload_n 1, 1), (205, .iload 6, 2), (207, .invokevirtual 285, 3), (210, .isub, 1), (211, .invokevirtual 405, 3), (214, .aload_n 0, 1), (215, .aload_n 0, 1), (216, .iload_n 1, 1), (217, .iload 7, 2), (219, .invokevirtual 289, 3), (222, .aload_n 0, 1), (223, .iload_n 1, 1), (224, .iload 6, 2), (226, .invokevirtual 289, 3), (229, .isub, 1), (230, .invokevirtual 405, 3), (233, .aload_n 0, 1), (234, .bipush 59, 2), (236, .invokevirtual 402, 3), (239, .iinc 5 1, 3), (242, .goto (-103), 3), (245, .aload_n 0, 1), (246, .getfield 399, 3), (249, .ireturn, 1)]
theorem tk_X10_write : ∀ q ∈ tb_X10_write, decode cX10_write q.1 = .ok q.2 := by decide +kernel
theorem dc_X10_write (k : Nat) {pc n : Nat} {i : Instr} (h : tb_X10_write[k]? = some (pc, i, n)) : decode cX10_write pc = .ok (i, n) := tk_X10_write (pc, i, n) (List.mem_of_getElem? h)
abbrev mX10_write : e_M := (yX10_write, cX10_write, 8, some (.int), [])
theorem ok_X10_write : e_mok mX10_write 1 := ⟨q2015, q119, by decide +kernel, fun sig h => by cases h; rfl⟩
def lp_X10_write_26 (F : Nat) (h2 : e_H) (a0 : Nat) (a1 : Int32) (x17 : Int32) : Nat → Int32 → Int32 → Option (Int32)
  | 0, _, _ => none
  | n + 1, x3_26, x4_26 =>
    if x17 ≤ x4_26 then
      some x3_26
    else
      Option.bind (f_X10_x h2 a0 a1 (x4_26 + 1)) (fun x39 =>
      Option.bind (f_X10_x h2 a0 a1 x4_26) (fun x46 =>
      Option.bind (f_X10_sign (x39 - x46)) (fun x50 =>
      Option.bind (f_X10_y h2 a0 a1 (x4_26 + 1)) (fun x59 =>
      Option.bind (f_X10_y h2 a0 a1 x4_26) (fun x66 =>
      Option.bind (f_X10_sign (x59 - x66)) (fun x70 =>
      Option.bind (some (x3_26 + (x50 + x70))) (fun x75 =>
      Option.bind (some (x4_26 + 1)) (fun x76 =>
      lp_X10_write_26 F h2 a0 a1 x17 n x75 x76))))))))
def lp_X10_write_139 (F : Nat) (a0 : Nat) (a1 : Int32) (x17 : Int32) (s91_2 : Int32) : Nat → Int32 → e_H → Option (e_H)
  | 0, _, _ => none
  | n + 1, x5_139, h_139 =>
    if x17 ≤ x5_139 then
      some h_139
    else
      Option.bind (
          if s91_2 ≤ 0 then
            if x17 = 0 then none else
            some ((x17 - x5_139) - (x17 - x5_139) / x17 * x17)
          else
            some x5_139
        : Option (Int32)) (fun s161_4 =>
      Option.bind (
          if s91_2 ≤ 0 then
            some ((x17 - x5_139) - 1)
          else
            some (x5_139 + 1)
        : Option (Int32)) (fun s181_5 =>
      Option.bind (e_is h_139 a0 8) (fun _ =>
      Option.bind (f_X10_put h_139 a0 98) (fun h186 =>
      Option.bind (e_is h186 a0 8) (fun _ =>
      Option.bind (f_X10_put h186 a0 121) (fun h192 =>
      Option.bind (e_is h192 a0 8) (fun _ =>
      Option.bind (f_X10_x h192 a0 a1 s181_5) (fun x200 =>
      Option.bind (f_X10_x h192 a0 a1 s161_4) (fun x207 =>
      Option.bind (f_X10_putSigned h192 a0 (x200 - x207)) (fun h211 =>
      Option.bind (e_is h211 a0 8) (fun _ =>
      Option.bind (f_X10_y h211 a0 a1 s181_5) (fun x219 =>
      Option.bind (f_X10_y h211 a0 a1 s161_4) (fun x226 =>
      Option.bind (f_X10_putSigned h211 a0 (x219 - x226)) (fun h230 =>
      Option.bind (e_is h230 a0 8) (fun _ =>
      Option.bind (f_X10_put h230 a0 59) (fun h236 =>
      Option.bind (some (x5_139 + 1)) (fun x239 =>
      lp_X10_write_139 F a0 a1 x17 s91_2 n x239 h236)))))))))))))))))
def f_X10_write (F : Nat) (h : e_H) (a0 : Nat) (a1 : Int32) : Option (Int32 × e_H) :=
  Option.bind (e_gI h a0 8 0 0) (fun h2 =>
  Option.bind (e_is h2 a0 8) (fun _ =>
  Option.bind (f_X10_isBand h2 a0 a1) (fun x7 =>
  if x7 = 0 then
    some ((-1), h2)
  else
    Option.bind (f_X10_corners h2 a0 a1) (fun x17 =>
    Option.bind (
        lp_X10_write_26 F h2 a0 a1 x17 F 0 0
      : Option (Int32)) (fun x3_82_1 =>
    Option.bind (
        if x3_82_1 < 0 then
          some (-1)
        else
          some 1
      : Option (Int32)) (fun s91_2 =>
    Option.bind (e_gI h2 a0 8 36 0) (fun h95 =>
    Option.bind (e_is h95 a0 8) (fun _ =>
    Option.bind (f_X10_put h95 a0 97) (fun h101 =>
    Option.bind (e_is h101 a0 8) (fun _ =>
    Option.bind (f_X10_put h101 a0 116) (fun h107 =>
    Option.bind (e_is h107 a0 8) (fun _ =>
    Option.bind (f_X10_x h107 a0 a1 0) (fun x114 =>
    Option.bind (f_X10_putSigned h107 a0 x114) (fun h117 =>
    Option.bind (e_is h117 a0 8) (fun _ =>
    Option.bind (f_X10_y h117 a0 a1 0) (fun x124 =>
    Option.bind (f_X10_putSigned h117 a0 x124) (fun h127 =>
    Option.bind (e_is h127 a0 8) (fun _ =>
    Option.bind (f_X10_put h127 a0 59) (fun h133 =>
    Option.bind (
        lp_X10_write_139 F a0 a1 x17 s91_2 F 0 h133
      : Option (e_H)) (fun h245_3 =>
    Option.bind (e_fI h245_3 a0 8 36) (fun x246 =>
    some (x246, h245_3))))))))))))))))))))))
set_option maxHeartbeats 4000000 in
set_option maxRecDepth 100000 in
theorem ct_X10_write {l : Launch} {D : e_D} {B : Heap} {F : Nat} {d : Nat} {h : e_H} {a0 : Nat} {a1 : Int32} {v : Int32} {h1 : e_H} (hd : 4 ≤ d) (e : f_X10_write F h a0 a1 = some (v, h1)) : e_Run l D B d mX10_write [.ref a0, .int a1] h (.ok (some (.int v)), h1) := by
  refine e_start [some (.ref a0), some (.int a1), none, none, none, none, none, none] (by decide) rfl rfl rfl (Nat.le_of_ble_eq_true rfl) (fun K hl0 hD0 hB0 hM hd0 hr => ?_)
  subst hl0 hD0 hB0 hd0
  have ho : (k_M K).1.cls = "PegBandsModel" := by rw [hM]; rfl
  have hT : (k_M K).2.2.2.1 = some (.int) := by rw [hM]
  refine (show Sx K cX10_write 0 [some (.ref a0), some (.int a1), none, none, none, none, none, none] [] h (f_X10_write F h a0 a1) (fun w => w = (v, h1)) from ?_) _ e rfl
  clear e
  unfold f_X10_write
  refine S_aload_n (dc_X10_write 0 rfl) rfl ?_
  refine S_iconst_ 0 (dc_X10_write 1 rfl) rfl ?_
  refine S_putI (dc_X10_write 2 rfl) ho fl_X10_94_8_0 (fun _ _ => rfl) (Or.inl rfl) rfl rfl (fun h2 e2 => ?_)
  refine S_aload_n (dc_X10_write 3 rfl) rfl ?_
  refine S_iload_n (dc_X10_write 4 rfl) rfl ?_
  refine Sx.ask (fun _ i7 => ?_)
  refine S_roI (d := k_d K - 1) (e_callV (b := a0) (As := [.int a1]) (rest := []) ok_X10_isBand rfl (Nat.le_of_ble_eq_true rfl) (dc_X10_write 5 rfl) ho q1791 q1793 (show e_cl[8]? = some (RX10, TX10, 51) from rfl) (e_sel.of qs52) (e_is_of i7) rfl (Nat.le_of_ble_eq_true rfl)) (by omega) (fun _ e => ct_X10_isBand (by omega) e) (fun x7 e7 => ?_)
  refine S_if_ne 15 (dc_X10_write 6 rfl) rfl (fun c10 => ?_) (fun c10 => ?_)
  · refine S_aload_n (dc_X10_write 9 rfl) rfl ?_
    refine S_iload_n (dc_X10_write 10 rfl) rfl ?_
    refine S_roI (d := k_d K - 1) (e_callV (b := a0) (As := [.int a1]) (rest := []) ok_X10_corners rfl (Nat.le_of_ble_eq_true rfl) (dc_X10_write 11 rfl) ho q1803 q1805 (show e_cl[8]? = some (RX10, TX10, 51) from rfl) (e_sel.of qs55) (e_is_of i7) rfl (Nat.le_of_ble_eq_true rfl)) (by omega) (fun _ e => ct_X10_corners (by omega) e) (fun x17 e17 => ?_)
    refine S_istore_n (L' := [some (.ref a0), some (.int a1), some (.int x17), none, none, none, none, none]) (dc_X10_write 12 rfl) rfl ?_
    refine S_iconst_ 0 (dc_X10_write 13 rfl) rfl ?_
    refine S_istore_n (L' := [some (.ref a0), some (.int a1), some (.int x17), some (.int 0), none, none, none, none]) (dc_X10_write 14 rfl) rfl ?_
    refine S_iconst_ 0 (dc_X10_write 15 rfl) rfl ?_
    refine S_istore (L' := [some (.ref a0), some (.int a1), some (.int x17), some (.int 0), some (.int 0), none, none, none]) (dc_X10_write 16 rfl) rfl ?_
    refine Sx.regK1 (pc2 := 82) (L2 := fun (x3_82_1 : Int32) => [some (.ref a0), some (.int a1), some (.int x17), some (.int x3_82_1), none, none, none, none]) (st2 := fun (x3_82_1 : Int32) => []) (h2 := fun (x3_82_1 : Int32) => h2) ?_ (fun Q1 hK1 => ?_)
    · intro x3_82_1
      show Sx K cX10_write 82 [some (.ref a0), some (.int a1), some (.int x17), some (.int x3_82_1), none, none, none, none] [] h2 _ _
      refine S_iload_n (dc_X10_write 50 rfl) rfl ?_
      refine Sx.regK1 (pc2 := 91) (L2 := fun (s91_2 : Int32) => [some (.ref a0), some (.int a1), some (.int x17), none, none, none, none, none]) (st2 := fun (s91_2 : Int32) => [.int s91_2]) (h2 := fun (s91_2 : Int32) => h2) ?_ (fun Q2 hK2 => ?_)
      · intro s91_2
        show Sx K cX10_write 91 [some (.ref a0), some (.int a1), some (.int x17), none, none, none, none, none] [.int s91_2] h2 _ _
        refine S_istore (L' := [some (.ref a0), some (.int a1), some (.int x17), none, some (.int s91_2), none, none, none]) (dc_X10_write 55 rfl) rfl ?_
        refine S_aload_n (dc_X10_write 56 rfl) rfl ?_
        refine S_iconst_ 0 (dc_X10_write 57 rfl) rfl ?_
        refine S_putI (dc_X10_write 58 rfl) ho fl_X10_399_8_36 (fun _ _ => rfl) (Or.inl rfl) rfl rfl (fun h95 e95 => ?_)
        refine S_aload_n (dc_X10_write 59 rfl) rfl ?_
        refine S_bipush_ 97 (dc_X10_write 60 rfl) rfl ?_
        refine Sx.ask (fun _ i101 => ?_)
        refine S_rwV (d := k_d K - 1) (e_callV (b := a0) (As := [.int 97]) (rest := []) ok_X10_put rfl (Nat.le_of_ble_eq_true rfl) (dc_X10_write 61 rfl) ho q2016 q2018 (show e_cl[8]? = some (RX10, TX10, 51) from rfl) (e_sel.of qs85) (e_is_of i101) rfl (Nat.le_of_ble_eq_true rfl)) (by omega) (fun _ e => ct_X10_put (by omega) e) (fun h101 e101 => ?_)
        refine S_aload_n (dc_X10_write 62 rfl) rfl ?_
        refine S_bipush_ 116 (dc_X10_write 63 rfl) rfl ?_
        refine Sx.ask (fun _ i107 => ?_)
        refine S_rwV (d := k_d K - 1) (e_callV (b := a0) (As := [.int 116]) (rest := []) ok_X10_put rfl (Nat.le_of_ble_eq_true rfl) (dc_X10_write 64 rfl) ho q2016 q2018 (show e_cl[8]? = some (RX10, TX10, 51) from rfl) (e_sel.of qs85) (e_is_of i107) rfl (Nat.le_of_ble_eq_true rfl)) (by omega) (fun _ e => ct_X10_put (by omega) e) (fun h107 e107 => ?_)
        refine S_aload_n (dc_X10_write 65 rfl) rfl ?_
        refine S_aload_n (dc_X10_write 66 rfl) rfl ?_
        refine S_iload_n (dc_X10_write 67 rfl) rfl ?_
        refine S_iconst_ 0 (dc_X10_write 68 rfl) rfl ?_
        refine Sx.ask (fun _ i114 => ?_)
        refine S_roI (d := k_d K - 1) (e_callV (b := a0) (As := [.int a1, .int 0]) (rest := [.ref a0]) ok_X10_x rfl (Nat.le_of_ble_eq_true rfl) (dc_X10_write 69 rfl) ho q1815 q1817 (show e_cl[8]? = some (RX10, TX10, 51) from rfl) (e_sel.of qs58) (e_is_of i114) rfl (Nat.le_of_ble_eq_true rfl)) (by omega) (fun _ e => ct_X10_x (by omega) e) (fun x114 e114 => ?_)
        refine S_rwV (d := k_d K - 1) (e_callV (b := a0) (As := [.int x114]) (rest := []) ok_X10_putSigned rfl (Nat.le_of_ble_eq_true rfl) (dc_X10_write 70 rfl) ho q2020 q2022 (show e_cl[8]? = some (RX10, TX10, 51) from rfl) (e_sel.of qs86) (e_is_of i114) rfl (Nat.le_of_ble_eq_true rfl)) (by omega) (fun _ e => ct_X10_putSigned (by omega) e) (fun h117 e117 => ?_)
        refine S_aload_n (dc_X10_write 71 rfl) rfl ?_
        refine S_aload_n (dc_X10_write 72 rfl) rfl ?_
        refine S_iload_n (dc_X10_write 73 rfl) rfl ?_
        refine S_iconst_ 0 (dc_X10_write 74 rfl) rfl ?_
        refine Sx.ask (fun _ i124 => ?_)
        refine S_roI (d := k_d K - 1) (e_callV (b := a0) (As := [.int a1, .int 0]) (rest := [.ref a0]) ok_X10_y rfl (Nat.le_of_ble_eq_true rfl) (dc_X10_write 75 rfl) ho q1819 q1821 (show e_cl[8]? = some (RX10, TX10, 51) from rfl) (e_sel.of qs59) (e_is_of i124) rfl (Nat.le_of_ble_eq_true rfl)) (by omega) (fun _ e => ct_X10_y (by omega) e) (fun x124 e124 => ?_)
        refine S_rwV (d := k_d K - 1) (e_callV (b := a0) (As := [.int x124]) (rest := []) ok_X10_putSigned rfl (Nat.le_of_ble_eq_true rfl) (dc_X10_write 76 rfl) ho q2020 q2022 (show e_cl[8]? = some (RX10, TX10, 51) from rfl) (e_sel.of qs86) (e_is_of i124) rfl (Nat.le_of_ble_eq_true rfl)) (by omega) (fun _ e => ct_X10_putSigned (by omega) e) (fun h127 e127 => ?_)
        refine S_aload_n (dc_X10_write 77 rfl) rfl ?_
        refine S_bipush_ 59 (dc_X10_write 78 rfl) rfl ?_
        refine Sx.ask (fun _ i133 => ?_)
        refine S_rwV (d := k_d K - 1) (e_callV (b := a0) (As := [.int 59]) (rest := []) ok_X10_put rfl (Nat.le_of_ble_eq_true rfl) (dc_X10_write 79 rfl) ho q2016 q2018 (show e_cl[8]? = some (RX10, TX10, 51) from rfl) (e_sel.of qs85) (e_is_of i133) rfl (Nat.le_of_ble_eq_true rfl)) (by omega) (fun _ e => ct_X10_put (by omega) e) (fun h133 e133 => ?_)
        refine S_iconst_ 0 (dc_X10_write 80 rfl) rfl ?_
        refine S_istore (L' := [some (.ref a0), some (.int a1), some (.int x17), none, some (.int s91_2), some (.int 0), none, none]) (dc_X10_write 81 rfl) rfl ?_
        refine Sx.regK1 (pc2 := 245) (L2 := fun (h245_3 : e_H) => [some (.ref a0), none, none, none, none, none, none, none]) (st2 := fun (h245_3 : e_H) => []) (h2 := fun (h245_3 : e_H) => h245_3) ?_ (fun Q3 hK3 => ?_)
        · intro h245_3
          show Sx K cX10_write 245 [some (.ref a0), none, none, none, none, none, none, none] [] h245_3 _ _
          refine S_aload_n (dc_X10_write 140 rfl) rfl ?_
          refine S_getI (dc_X10_write 141 rfl) ho fl_X10_399_8_36 (fun _ _ => rfl) (fun x246 e246 => ?_)
          exact S_iret (dc_X10_write 142 rfl) hT rfl (e_rqI hr)
        · have hK3 : ∀ (h245_3 : e_H), Sx K cX10_write 245 [some (.ref a0), none, none, none, none, none, none, none] [] h245_3 (some h245_3) Q3 := hK3
          have ih3 : ∀ (n : Nat) (x5_139 : Int32) (h_139 : e_H), Sx K cX10_write 139 [some (.ref a0), some (.int a1), some (.int x17), none, some (.int s91_2), some (.int x5_139), none, none] [] h_139 (lp_X10_write_139 F a0 a1 x17 s91_2 n x5_139 h_139) Q3 := by
            intro n
            induction n with
            | zero => intro x5_139 h_139; exact Sx.none
            | succ n ih3 =>
              intro x5_139 h_139
              rw [lp_X10_write_139.eq_2]
              refine S_iload (dc_X10_write 82 rfl) rfl ?_
              refine S_iload_n (dc_X10_write 83 rfl) rfl ?_
              refine S_icmp_ge 245 (dc_X10_write 84 rfl) rfl (fun c142 => ?_) (fun c142 => ?_)
              · refine Sx.cut [true, false, false, true, false, false, true, true] ?_
                exact hK3 h_139
              · refine S_iload (dc_X10_write 85 rfl) rfl ?_
                refine Sx.regK1 (pc2 := 161) (L2 := fun (s161_4 : Int32) => [some (.ref a0), some (.int a1), some (.int x17), none, some (.int s91_2), some (.int x5_139), none, none]) (st2 := fun (s161_4 : Int32) => [.int s161_4]) (h2 := fun (s161_4 : Int32) => h_139) ?_ (fun Q4 hK4 => ?_)
                · intro s161_4
                  show Sx K cX10_write 161 [some (.ref a0), some (.int a1), some (.int x17), none, some (.int s91_2), some (.int x5_139), none, none] [.int s161_4] h_139 _ _
                  refine S_istore (L' := [some (.ref a0), some (.int a1), some (.int x17), none, some (.int s91_2), some (.int x5_139), some (.int s161_4), none]) (dc_X10_write 94 rfl) rfl ?_
                  refine S_iload (dc_X10_write 95 rfl) rfl ?_
                  refine Sx.regK1 (pc2 := 181) (L2 := fun (s181_5 : Int32) => [some (.ref a0), some (.int a1), some (.int x17), none, some (.int s91_2), some (.int x5_139), some (.int s161_4), none]) (st2 := fun (s181_5 : Int32) => [.int s181_5]) (h2 := fun (s181_5 : Int32) => h_139) ?_ (fun Q5 hK5 => ?_)
                  · intro s181_5
                    show Sx K cX10_write 181 [some (.ref a0), some (.int a1), some (.int x17), none, some (.int s91_2), some (.int x5_139), some (.int s161_4), none] [.int s181_5] h_139 _ _
                    refine S_istore (L' := [some (.ref a0), some (.int a1), some (.int x17), none, some (.int s91_2), some (.int x5_139), some (.int s161_4), some (.int s181_5)]) (dc_X10_write 106 rfl) rfl ?_
                    refine S_aload_n (dc_X10_write 107 rfl) rfl ?_
                    refine S_bipush_ 98 (dc_X10_write 108 rfl) rfl ?_
                    refine Sx.ask (fun _ i186 => ?_)
                    refine S_rwV (d := k_d K - 1) (e_callV (b := a0) (As := [.int 98]) (rest := []) ok_X10_put rfl (Nat.le_of_ble_eq_true rfl) (dc_X10_write 109 rfl) ho q2016 q2018 (show e_cl[8]? = some (RX10, TX10, 51) from rfl) (e_sel.of qs85) (e_is_of i186) rfl (Nat.le_of_ble_eq_true rfl)) (by omega) (fun _ e => ct_X10_put (by omega) e) (fun h186 e186 => ?_)
                    refine S_aload_n (dc_X10_write 110 rfl) rfl ?_
                    refine S_bipush_ 121 (dc_X10_write 111 rfl) rfl ?_
                    refine Sx.ask (fun _ i192 => ?_)
                    refine S_rwV (d := k_d K - 1) (e_callV (b := a0) (As := [.int 121]) (rest := []) ok_X10_put rfl (Nat.le_of_ble_eq_true rfl) (dc_X10_write 112 rfl) ho q2016 q2018 (show e_cl[8]? = some (RX10, TX10, 51) from rfl) (e_sel.of qs85) (e_is_of i192) rfl (Nat.le_of_ble_eq_true rfl)) (by omega) (fun _ e => ct_X10_put (by omega) e) (fun h192 e192 => ?_)
                    refine S_aload_n (dc_X10_write 113 rfl) rfl ?_
                    refine S_aload_n (dc_X10_write 114 rfl) rfl ?_
                    refine S_iload_n (dc_X10_write 115 rfl) rfl ?_
                    refine S_iload (dc_X10_write 116 rfl) rfl ?_
                    refine Sx.ask (fun _ i200 => ?_)
                    refine S_roI (d := k_d K - 1) (e_callV (b := a0) (As := [.int a1, .int s181_5]) (rest := [.ref a0]) ok_X10_x rfl (Nat.le_of_ble_eq_true rfl) (dc_X10_write 117 rfl) ho q1815 q1817 (show e_cl[8]? = some (RX10, TX10, 51) from rfl) (e_sel.of qs58) (e_is_of i200) rfl (Nat.le_of_ble_eq_true rfl)) (by omega) (fun _ e => ct_X10_x (by omega) e) (fun x200 e200 => ?_)
                    refine S_aload_n (dc_X10_write 118 rfl) rfl ?_
                    refine S_iload_n (dc_X10_write 119 rfl) rfl ?_
                    refine S_iload (dc_X10_write 120 rfl) rfl ?_
                    refine S_roI (d := k_d K - 1) (e_callV (b := a0) (As := [.int a1, .int s161_4]) (rest := [.int x200, .ref a0]) ok_X10_x rfl (Nat.le_of_ble_eq_true rfl) (dc_X10_write 121 rfl) ho q1815 q1817 (show e_cl[8]? = some (RX10, TX10, 51) from rfl) (e_sel.of qs58) (e_is_of i200) rfl (Nat.le_of_ble_eq_true rfl)) (by omega) (fun _ e => ct_X10_x (by omega) e) (fun x207 e207 => ?_)
                    refine S_isub (dc_X10_write 122 rfl) ?_
                    refine S_rwV (d := k_d K - 1) (e_callV (b := a0) (As := [.int (x200 - x207)]) (rest := []) ok_X10_putSigned rfl (Nat.le_of_ble_eq_true rfl) (dc_X10_write 123 rfl) ho q2020 q2022 (show e_cl[8]? = some (RX10, TX10, 51) from rfl) (e_sel.of qs86) (e_is_of i200) rfl (Nat.le_of_ble_eq_true rfl)) (by omega) (fun _ e => ct_X10_putSigned (by omega) e) (fun h211 e211 => ?_)
                    refine S_aload_n (dc_X10_write 124 rfl) rfl ?_
                    refine S_aload_n (dc_X10_write 125 rfl) rfl ?_
                    refine S_iload_n (dc_X10_write 126 rfl) rfl ?_
                    refine S_iload (dc_X10_write 127 rfl) rfl ?_
                    refine Sx.ask (fun _ i219 => ?_)
                    refine S_roI (d := k_d K - 1) (e_callV (b := a0) (As := [.int a1, .int s181_5]) (rest := [.ref a0]) ok_X10_y rfl (Nat.le_of_ble_eq_true rfl) (dc_X10_write 128 rfl) ho q1819 q1821 (show e_cl[8]? = some (RX10, TX10, 51) from rfl) (e_sel.of qs59) (e_is_of i219) rfl (Nat.le_of_ble_eq_true rfl)) (by omega) (fun _ e => ct_X10_y (by omega) e) (fun x219 e219 => ?_)
                    refine S_aload_n (dc_X10_write 129 rfl) rfl ?_
                    refine S_iload_n (dc_X10_write 130 rfl) rfl ?_
                    refine S_iload (dc_X10_write 131 rfl) rfl ?_
                    refine S_roI (d := k_d K - 1) (e_callV (b := a0) (As := [.int a1, .int s161_4]) (rest := [.int x219, .ref a0]) ok_X10_y rfl (Nat.le_of_ble_eq_true rfl) (dc_X10_write 132 rfl) ho q1819 q1821 (show e_cl[8]? = some (RX10, TX10, 51) from rfl) (e_sel.of qs59) (e_is_of i219) rfl (Nat.le_of_ble_eq_true rfl)) (by omega) (fun _ e => ct_X10_y (by omega) e) (fun x226 e226 => ?_)
                    refine S_isub (dc_X10_write 133 rfl) ?_
                    refine S_rwV (d := k_d K - 1) (e_callV (b := a0) (As := [.int (x219 - x226)]) (rest := []) ok_X10_putSigned rfl (Nat.le_of_ble_eq_true rfl) (dc_X10_write 134 rfl) ho q2020 q2022 (show e_cl[8]? = some (RX10, TX10, 51) from rfl) (e_sel.of qs86) (e_is_of i219) rfl (Nat.le_of_ble_eq_true rfl)) (by omega) (fun _ e => ct_X10_putSigned (by omega) e) (fun h230 e230 => ?_)
                    refine S_aload_n (dc_X10_write 135 rfl) rfl ?_
                    refine S_bipush_ 59 (dc_X10_write 136 rfl) rfl ?_
                    refine Sx.ask (fun _ i236 => ?_)
                    refine S_rwV (d := k_d K - 1) (e_callV (b := a0) (As := [.int 59]) (rest := []) ok_X10_put rfl (Nat.le_of_ble_eq_true rfl) (dc_X10_write 137 rfl) ho q2016 q2018 (show e_cl[8]? = some (RX10, TX10, 51) from rfl) (e_sel.of qs85) (e_is_of i236) rfl (Nat.le_of_ble_eq_true rfl)) (by omega) (fun _ e => ct_X10_put (by omega) e) (fun h236 e236 => ?_)
                    refine S_iincN 1 (L' := fun x239 => [some (.ref a0), some (.int a1), some (.int x17), none, some (.int s91_2), some (.int x239), some (.int s161_4), some (.int s181_5)]) (dc_X10_write 138 rfl) rfl rfl (fun _ => rfl) (fun x239 n239 => ?_)
                    refine S_goto 139 (dc_X10_write 139 rfl) rfl ?_
                    refine Sx.cut [true, true, true, true, true, true, false, false] ?_
                    exact ih3 x239 h236
                  · have hK5 : ∀ (s181_5 : Int32), Sx K cX10_write 181 [some (.ref a0), some (.int a1), some (.int x17), none, some (.int s91_2), some (.int x5_139), some (.int s161_4), none] [.int s181_5] h_139 (some s181_5) Q5 := hK5
                    refine S_if_le 175 (dc_X10_write 96 rfl) rfl (fun c165 => ?_) (fun c165 => ?_)
                    · refine S_iload_n (dc_X10_write 101 rfl) rfl ?_
                      refine S_iload (dc_X10_write 102 rfl) rfl ?_
                      refine S_isub (dc_X10_write 103 rfl) ?_
                      refine S_iconst_ 1 (dc_X10_write 104 rfl) rfl ?_
                      refine S_isub (dc_X10_write 105 rfl) ?_
                      exact hK5 ((x17 - x5_139) - 1)
                    · refine S_iload (dc_X10_write 97 rfl) rfl ?_
                      refine S_iconst_ 1 (dc_X10_write 98 rfl) rfl ?_
                      refine S_iadd (dc_X10_write 99 rfl) ?_
                      refine S_goto 181 (dc_X10_write 100 rfl) rfl ?_
                      exact hK5 (x5_139 + 1)
                · have hK4 : ∀ (s161_4 : Int32), Sx K cX10_write 161 [some (.ref a0), some (.int a1), some (.int x17), none, some (.int s91_2), some (.int x5_139), none, none] [.int s161_4] h_139 (some s161_4) Q4 := hK4
                  refine S_if_le 155 (dc_X10_write 86 rfl) rfl (fun c147 => ?_) (fun c147 => ?_)
                  · refine S_iload_n (dc_X10_write 89 rfl) rfl ?_
                    refine S_iload (dc_X10_write 90 rfl) rfl ?_
                    refine S_isub (dc_X10_write 91 rfl) ?_
                    refine S_iload_n (dc_X10_write 92 rfl) rfl ?_
                    refine Sx.ncond (fun c160 => ?_)
                    refine S_irem (dc_X10_write 93 rfl) c160 ?_
                    exact hK4 ((x17 - x5_139) - (x17 - x5_139) / x17 * x17)
                  · refine S_iload (dc_X10_write 87 rfl) rfl ?_
                    refine S_goto 161 (dc_X10_write 88 rfl) rfl ?_
                    exact hK4 x5_139
          exact ih3 F 0 h133
      · have hK2 : ∀ (s91_2 : Int32), Sx K cX10_write 91 [some (.ref a0), some (.int a1), some (.int x17), none, none, none, none, none] [.int s91_2] h2 (some s91_2) Q2 := hK2
        refine S_if_lt 90 (dc_X10_write 51 rfl) rfl (fun c83 => ?_) (fun c83 => ?_)
        · refine S_iconst_ (-1) (dc_X10_write 54 rfl) rfl ?_
          refine Sx.cut [true, true, true, false, true, true, true, true] ?_
          exact hK2 (-1)
        · refine S_iconst_ 1 (dc_X10_write 52 rfl) rfl ?_
          refine S_goto 91 (dc_X10_write 53 rfl) rfl ?_
          refine Sx.cut [true, true, true, false, true, true, true, true] ?_
          exact hK2 1
    · have hK1 : ∀ (x3_82_1 : Int32), Sx K cX10_write 82 [some (.ref a0), some (.int a1), some (.int x17), some (.int x3_82_1), none, none, none, none] [] h2 (some x3_82_1) Q1 := hK1
      have ih1 : ∀ (n : Nat) (x3_26 : Int32) (x4_26 : Int32), Sx K cX10_write 26 [some (.ref a0), some (.int a1), some (.int x17), some (.int x3_26), some (.int x4_26), none, none, none] [] h2 (lp_X10_write_26 F h2 a0 a1 x17 n x3_26 x4_26) Q1 := by
        intro n
        induction n with
        | zero => intro x3_26 x4_26; exact Sx.none
        | succ n ih1 =>
          intro x3_26 x4_26
          rw [lp_X10_write_26.eq_2]
          refine S_iload (dc_X10_write 17 rfl) rfl ?_
          refine S_iload_n (dc_X10_write 18 rfl) rfl ?_
          refine S_icmp_ge 82 (dc_X10_write 19 rfl) rfl (fun c29 => ?_) (fun c29 => ?_)
          · refine Sx.cut [true, true, true, true, false, true, true, true] ?_
            exact hK1 x3_26
          · refine S_iload_n (dc_X10_write 20 rfl) rfl ?_
            refine S_aload_n (dc_X10_write 21 rfl) rfl ?_
            refine S_iload_n (dc_X10_write 22 rfl) rfl ?_
            refine S_iload (dc_X10_write 23 rfl) rfl ?_
            refine S_iconst_ 1 (dc_X10_write 24 rfl) rfl ?_
            refine S_iadd (dc_X10_write 25 rfl) ?_
            refine S_roI (d := k_d K - 1) (e_callV (b := a0) (As := [.int a1, .int (x4_26 + 1)]) (rest := [.int x3_26]) ok_X10_x rfl (Nat.le_of_ble_eq_true rfl) (dc_X10_write 26 rfl) ho q1815 q1817 (show e_cl[8]? = some (RX10, TX10, 51) from rfl) (e_sel.of qs58) (e_is_of i7) rfl (Nat.le_of_ble_eq_true rfl)) (by omega) (fun _ e => ct_X10_x (by omega) e) (fun x39 e39 => ?_)
            refine S_aload_n (dc_X10_write 27 rfl) rfl ?_
            refine S_iload_n (dc_X10_write 28 rfl) rfl ?_
            refine S_iload (dc_X10_write 29 rfl) rfl ?_
            refine S_roI (d := k_d K - 1) (e_callV (b := a0) (As := [.int a1, .int x4_26]) (rest := [.int x39, .int x3_26]) ok_X10_x rfl (Nat.le_of_ble_eq_true rfl) (dc_X10_write 30 rfl) ho q1815 q1817 (show e_cl[8]? = some (RX10, TX10, 51) from rfl) (e_sel.of qs58) (e_is_of i7) rfl (Nat.le_of_ble_eq_true rfl)) (by omega) (fun _ e => ct_X10_x (by omega) e) (fun x46 e46 => ?_)
            refine S_isub (dc_X10_write 31 rfl) ?_
            refine S_roI (d := k_d K - 1) (e_callS (As := [.int (x39 - x46)]) (rest := [.int x3_26]) ok_X10_sign rfl (Nat.le_of_ble_eq_true rfl) (dc_X10_write 32 rfl) ho q1753 q1754 rfl (Nat.le_of_ble_eq_true rfl)) (by omega) (fun _ e => ct_X10_sign (by omega) e) (fun x50 e50 => ?_)
            refine S_aload_n (dc_X10_write 33 rfl) rfl ?_
            refine S_iload_n (dc_X10_write 34 rfl) rfl ?_
            refine S_iload (dc_X10_write 35 rfl) rfl ?_
            refine S_iconst_ 1 (dc_X10_write 36 rfl) rfl ?_
            refine S_iadd (dc_X10_write 37 rfl) ?_
            refine S_roI (d := k_d K - 1) (e_callV (b := a0) (As := [.int a1, .int (x4_26 + 1)]) (rest := [.int x50, .int x3_26]) ok_X10_y rfl (Nat.le_of_ble_eq_true rfl) (dc_X10_write 38 rfl) ho q1819 q1821 (show e_cl[8]? = some (RX10, TX10, 51) from rfl) (e_sel.of qs59) (e_is_of i7) rfl (Nat.le_of_ble_eq_true rfl)) (by omega) (fun _ e => ct_X10_y (by omega) e) (fun x59 e59 => ?_)
            refine S_aload_n (dc_X10_write 39 rfl) rfl ?_
            refine S_iload_n (dc_X10_write 40 rfl) rfl ?_
            refine S_iload (dc_X10_write 41 rfl) rfl ?_
            refine S_roI (d := k_d K - 1) (e_callV (b := a0) (As := [.int a1, .int x4_26]) (rest := [.int x59, .int x50, .int x3_26]) ok_X10_y rfl (Nat.le_of_ble_eq_true rfl) (dc_X10_write 42 rfl) ho q1819 q1821 (show e_cl[8]? = some (RX10, TX10, 51) from rfl) (e_sel.of qs59) (e_is_of i7) rfl (Nat.le_of_ble_eq_true rfl)) (by omega) (fun _ e => ct_X10_y (by omega) e) (fun x66 e66 => ?_)
            refine S_isub (dc_X10_write 43 rfl) ?_
            refine S_roI (d := k_d K - 1) (e_callS (As := [.int (x59 - x66)]) (rest := [.int x50, .int x3_26]) ok_X10_sign rfl (Nat.le_of_ble_eq_true rfl) (dc_X10_write 44 rfl) ho q1753 q1754 rfl (Nat.le_of_ble_eq_true rfl)) (by omega) (fun _ e => ct_X10_sign (by omega) e) (fun x70 e70 => ?_)
            refine S_iadd (dc_X10_write 45 rfl) ?_
            refine S_iadd (dc_X10_write 46 rfl) ?_
            refine Sx.nameI (fun x75 n75 => ?_)
            refine S_istore_n (L' := [some (.ref a0), some (.int a1), some (.int x17), some (.int x75), some (.int x4_26), none, none, none]) (dc_X10_write 47 rfl) rfl ?_
            refine S_iincN 1 (L' := fun x76 => [some (.ref a0), some (.int a1), some (.int x17), some (.int x75), some (.int x76), none, none, none]) (dc_X10_write 48 rfl) rfl rfl (fun _ => rfl) (fun x76 n76 => ?_)
            refine S_goto 26 (dc_X10_write 49 rfl) rfl ?_
            exact ih1 x75 x76
      exact ih1 F 0 0
  · refine S_iconst_ (-1) (dc_X10_write 7 rfl) rfl ?_
    exact S_iret (dc_X10_write 8 rfl) hT rfl (e_rqI hr)
abbrev cX10_byteAt : ByteArray := prog_18_method_108_code
def yX10_byteAt : MethodName := ⟨"PegBandsModel", "byteAt", "(I)I"⟩
def tb_X10_byteAt : List (Nat × Instr × Nat) := [(0, .aload_n 0, 1), (1, .iconst 0, 1), (2, .putfield 94, 3), (5, .iload_n 1, 1), (6, .ifCond .lt 20, 3), (9, .iload_n 1, 1), (10, .aload_n 0, 1), (11, .getfield 399, 3), (14, .if_icmp .ge 12, 3), (17, .aload_n 0, 1), (18, .getfield 66, 3), (21, .iload_n 1, 1), (22, .iaload, 1), (23, .goto 4, 3), (26, .iconst (-1), 1), (27, .ireturn, 1)]
theorem tk_X10_byteAt : ∀ q ∈ tb_X10_byteAt, decode cX10_byteAt q.1 = .ok q.2 := by decide +kernel
theorem dc_X10_byteAt (k : Nat) {pc n : Nat} {i : Instr} (h : tb_X10_byteAt[k]? = some (pc, i, n)) : decode cX10_byteAt pc = .ok (i, n) := tk_X10_byteAt (pc, i, n) (List.mem_of_getElem? h)
abbrev mX10_byteAt : e_M := (yX10_byteAt, cX10_byteAt, 2, some (.int), [])
theorem ok_X10_byteAt : e_mok mX10_byteAt 1 := ⟨q2027, q119, by decide +kernel, fun sig h => by cases h; rfl⟩
def f_X10_byteAt (h : e_H) (a0 : Nat) (a1 : Int32) : Option (Int32 × e_H) :=
  Option.bind (e_gI h a0 8 0 0) (fun h2 =>
  if a1 < 0 then
    some ((-1), h2)
  else
    Option.bind (e_fI h2 a0 8 36) (fun x11 =>
    if x11 ≤ a1 then
      some ((-1), h2)
    else
      Option.bind (e_fA h2 a0 8 35) (fun x18 =>
      Option.bind (e_aI h2 x18 0 a1) (fun x22 =>
      some (x22, h2)))))
set_option maxHeartbeats 4000000 in
set_option maxRecDepth 100000 in
theorem ct_X10_byteAt {l : Launch} {D : e_D} {B : Heap} {d : Nat} {h : e_H} {a0 : Nat} {a1 : Int32} {v : Int32} {h1 : e_H} (hd : 1 ≤ d) (e : f_X10_byteAt h a0 a1 = some (v, h1)) : e_Run l D B d mX10_byteAt [.ref a0, .int a1] h (.ok (some (.int v)), h1) := by
  refine e_start [some (.ref a0), some (.int a1)] (by decide) rfl rfl rfl (Nat.le_of_ble_eq_true rfl) (fun K hl0 hD0 hB0 hM hd0 hr => ?_)
  subst hl0 hD0 hB0 hd0
  have ho : (k_M K).1.cls = "PegBandsModel" := by rw [hM]; rfl
  have hT : (k_M K).2.2.2.1 = some (.int) := by rw [hM]
  refine (show Sx K cX10_byteAt 0 [some (.ref a0), some (.int a1)] [] h (f_X10_byteAt h a0 a1) (fun w => w = (v, h1)) from ?_) _ e rfl
  clear e
  unfold f_X10_byteAt
  refine S_aload_n (dc_X10_byteAt 0 rfl) rfl ?_
  refine S_iconst_ 0 (dc_X10_byteAt 1 rfl) rfl ?_
  refine S_putI (dc_X10_byteAt 2 rfl) ho fl_X10_94_8_0 (fun _ _ => rfl) (Or.inl rfl) rfl rfl (fun h2 e2 => ?_)
  refine S_iload_n (dc_X10_byteAt 3 rfl) rfl ?_
  refine S_if_lt 26 (dc_X10_byteAt 4 rfl) rfl (fun c6 => ?_) (fun c6 => ?_)
  · refine S_iconst_ (-1) (dc_X10_byteAt 14 rfl) rfl ?_
    exact S_iret (dc_X10_byteAt 15 rfl) hT rfl (e_rqI hr)
  · refine S_iload_n (dc_X10_byteAt 5 rfl) rfl ?_
    refine S_aload_n (dc_X10_byteAt 6 rfl) rfl ?_
    refine S_getI (dc_X10_byteAt 7 rfl) ho fl_X10_399_8_36 (fun _ _ => rfl) (fun x11 e11 => ?_)
    refine S_icmp_ge 26 (dc_X10_byteAt 8 rfl) rfl (fun c14 => ?_) (fun c14 => ?_)
    · refine S_iconst_ (-1) (dc_X10_byteAt 14 rfl) rfl ?_
      exact S_iret (dc_X10_byteAt 15 rfl) hT rfl (e_rqI hr)
    · refine S_aload_n (dc_X10_byteAt 9 rfl) rfl ?_
      refine S_getA (dc_X10_byteAt 10 rfl) ho fl_X10_66_8_35 (fun _ _ => rfl) (fun x18 e18 => ?_)
      refine S_iload_n (dc_X10_byteAt 11 rfl) rfl ?_
      refine S_iald (dc_X10_byteAt 12 rfl) (fun x22 e22 => ?_)
      refine S_goto 27 (dc_X10_byteAt 13 rfl) rfl ?_
      exact S_iret (dc_X10_byteAt 15 rfl) hT rfl (e_rqI hr)
abbrev cX10_goTriangles : ByteArray := prog_18_method_109_code
def yX10_goTriangles : MethodName := ⟨"PegBandsModel", "goTriangles", "(III)I"⟩
def tb_X10_goTriangles : List (Nat × Instr × Nat) := [(0, .iconst 0, 1), (1, .istore 4, 2), (3, .aload_n 0, 1), (4, .iconst (-1), 1), (5, .putfield 408, 3), (8, .iconst 0, 1), (9, .istore 5, 2), (11, .iload 5, 2), (13, .bipush 100, 2), (15, .if_icmp .ge 290, 3), (18, .iload 5, 2), (20, .bipush 10, 2), (22, .irem, 1), (23, .istore 6, 2), (25, .iload 5, 2), (27, .bipush 10, 2), (29, .idiv, 1), (30, .istore 7, 2), (32, .aload_n 0, 1), (33, .getfield 13, 3), (36, .iload 6, 2), (38, .iload 7, 2), (40, .invokestatic 226, 3), (43, .ifCond .ne 6, 3), (46, .goto 253, 3), (49, .iload 5, 2), (51, .iconst 1, 1), (52, .iadd, 1), (53, .istore 8, 2), (55, .iload 8, 2), (57, .bipush 100, 2), (59, .if_icmp .ge 240, 3), (62, .iload 8, 2), (64, .bipush 10, 2), (66, .irem, 1), (67, .istore 9, 2), (69, .iload 8, 2), (71, .bipush 10, 2), (73, .idiv, 1), (74, .istore 10, 2), (76, .aload_n 0, 1), (77, .getfield 13, 3), (80, .iload 9, 2), (82, .iload 10, 2), (84, .invokestatic 226, 3), (87, .ifCond .ne 6, 3), (90, .goto 203, 3), (93, .iload 9, 2), (95, .iload 6, 2), (97, .isub, 1), (98, .iload 10, 2), (100, .iload 7, 2), (102, .isub, 1), (103, .invokestatic 295, 3), (106, .istore 11, 2), (108, .iload 8, 2), (110, .iconst 1, 1), (111, .iadd, 1), (112, .istore 12, 2), (114, .iload 12, 2), (116, .bipush 100, 2), (118, .if_icmp .ge 175, 3), (121, .iload 12, 2), (123, .bipush 10, 2), (125, .irem, 1), (126, .istore 13, 2), (128, .iload 12, 2), (130, .bipush 10, 2), (132, .idiv, 1), (133, .istore 14, 2), (135, .iload 9, 2), (137, .iload 6, 2), (139, .isub, 1), (140, .iload 14, 2), (142, .iload 7, 2), (144, .isub, 1), (145, .imul, 1), (146, .iload 10, 2), (148, .iload 7, 2), (150, .isub, 1), (151, .iload 13, 2), (153, .iload 6, 2), (155, .isub, 1), (156, .imul, 1), (157, .isub, 1), (158, .invokestatic 105, 3), (161, .istore 15, 2), (163, .iload 15, 2), (165, .ifCond .eq 122, 3), (168, .aload_n 0, 1), (169, .getfield 13, 3), (172, .iload 13, 2), (174, .iload 14, 2), (176, .invokestatic 226, 3), (179, .ifCond .ne 6, 3), (182, .goto 105, 3), (185, .iload 11, 2), (187, .iload 13, 2), (189, .iload 9, 2), (191, .isub, 1), (192, .iload 14, 2), (194, .iload 10, 2), (196, .isub, 1), (197, .invokestatic 295, 3), (200, .iadd, 1), (201, .iload 13, 2), (203, .iload 6, 2), (205, .isub, 1), (206, .iload 14, 2), (208, .iload 7, 2), (210, .isub, 1), (211, .invokestatic 295, 3), (214, .iadd, 1), (215, .istore 16, 2), (217, .iload 16, 2), (219, .iload_n 1, 1), (220, .if_icmp .ne 67, 3), (223, .iload 15, 2), (225, .iload 16, 2), (227, .isub, 1), (228, .iconst 2, 1), (229, .iadd, 1), (230, .iconst 2, 1), (231, .idiv, 1), (232, .iload_n 2, 1), (233, .if_icmp .eq 6, 3), (236, .goto 51, 3), (239, .iload 4, 2), (241, .iload_n 3, 1), (242, .if_icmp .ne 19, 3), (245, .sipush 10000, 3), (248, .iload 5, 2), (250, .imul, 1), (251, .bipush 100, 2), (253, .iload 8, 2), (255, .imul, 1), (256, .iadd, 1), (257, .iload 12, 2), (259, .iadd, 1), (260, .ireturn, 1), (261, .iinc 4 1, 3), (264, .aload_n 0, 1), (265, .getfield 408, 3), (268, .iconst (-1), 1), (269, .if_icmp .eq 12, 3), (272, .iload 15, 2), (274, .aload_n 0, 1), (275, .getfield 408, 3), (278, .if_icmp .ge 9, 3), (281, .aload_n 0, 1), (282, .iload 15, 2), (284, .putfield 408, 3), (287, .iinc 12 1, 3), (290, .goto (-176), 3), (293, .iinc 8 1, 3), (296, .goto (-241), 3), (299, .iinc 5 1, 3), (302, .goto (-291), 3), (305, .iload_n 3, 1), (306, .iconst (-1), 1), (307, .if_icmp .ne 8, 3), (310, .iload 4, 2), (312, .goto 4, 3), (315, .iconst (-1), 1), (316, .ireturn, 1)]
theorem tk_X10_goTriangles : ∀ q ∈ tb_X10_goTriangles, decode cX10_goTriangles q.1 = .ok q.2 := by decide +kernel
theorem dc_X10_goTriangles (k : Nat) {pc n : Nat} {i : Instr} (h : tb_X10_goTriangles[k]? = some (pc, i, n)) : decode cX10_goTriangles pc = .ok (i, n) := tk_X10_goTriangles (pc, i, n) (List.mem_of_getElem? h)
abbrev mX10_goTriangles : e_M := (yX10_goTriangles, cX10_goTriangles, 17, some (.int), [])
theorem ok_X10_goTriangles : e_mok mX10_goTriangles 3 := ⟨q2035, q119, by decide +kernel, fun sig h => by cases h; rfl⟩
theorem fl_X10_408_8_37 : e_FL "PegBandsModel" 408 8 37 := ⟨_, rfl, by decide, Or.inl q1508⟩
def lp_X10_goTriangles_114 (F : Nat) (a0 : Nat) (a1 : Int32) (a2 : Int32) (a3 : Int32) (x5_11 : Int32) (x23 : Int32) (x30 : Int32) (x8_55 : Int32) (x67 : Int32) (x74 : Int32) (x103 : Int32) : Nat → Int32 → Int32 → e_H → Option (Except (Except (Except (Except (Except (Int32 × e_H) (Int32 × e_H)) (Int32 × e_H)) (Int32 × e_H)) (Int32 × e_H)) (Int32 × e_H))
  | 0, _, _, _ => none
  | n + 1, x4_114, x12_114, h_114 =>
    if 100 ≤ x12_114 then
      some (.ok (x4_114, h_114))
    else
      Option.bind (some (x12_114 - x12_114 / 10 * 10)) (fun x126 =>
      Option.bind (some (x12_114 / 10)) (fun x133 =>
      Option.bind (f_X10_size (((x67 - x23) * (x133 - x30)) - ((x74 - x30) * (x126 - x23)))) (fun x158 =>
      e_bE (
          if x158 = 0 then
            some (.ok (x4_114, h_114))
          else
            Option.bind (e_fA h_114 a0 8 15) (fun x169 =>
            Option.bind (f_X10_isPeg h_114 x169 x126 x133) (fun x176 =>
            if x176 = 0 then
              some (.ok (x4_114, h_114))
            else
              Option.bind (f_X10_common F (x126 - x67) (x133 - x74)) (fun x197 =>
              Option.bind (f_X10_common F (x126 - x23) (x133 - x30)) (fun x211 =>
              Option.bind (some ((x103 + x197) + x211)) (fun x215 =>
              if x215 = a1 then
                if (((x158 - x215) + 2) / 2) = a2 then
                  if x4_114 = a3 then
                    some (.error (.error (.error (.error (.error (.error ((((10000 * x5_11) + (100 * x8_55)) + x12_114), h_114)))))))
                  else
                    Option.bind (some (x4_114 + 1)) (fun x261 =>
                    Option.bind (e_fI h_114 a0 8 37) (fun x265 =>
                    e_bE (
                        if x265 = (-1) then
                          some (.ok ())
                        else
                          Option.bind (e_fI h_114 a0 8 37) (fun x275 =>
                          if x275 ≤ x158 then
                            some (.error (.ok (x261, h_114)))
                          else
                            some (.ok ()))
                      : Option (Except (Except (Except (Except (Except (Except (Except (Int32 × e_H) (Int32 × e_H)) (Int32 × e_H)) (Int32 × e_H)) (Int32 × e_H)) (Int32 × e_H)) (Int32 × e_H)) Unit)) (fun _ =>
                    Option.bind (e_gI h_114 a0 8 37 x158) (fun h284 =>
                    some (.ok (x261, h284))))))
                else
                  some (.ok (x4_114, h_114))
              else
                some (.ok (x4_114, h_114)))))))
        : Option (Except (Except (Except (Except (Except (Except (Int32 × e_H) (Int32 × e_H)) (Int32 × e_H)) (Int32 × e_H)) (Int32 × e_H)) (Int32 × e_H)) (Int32 × e_H))) (e_u2 (fun x4_287_6 h287_6 =>
      Option.bind (some (x12_114 + 1)) (fun x287 =>
      lp_X10_goTriangles_114 F a0 a1 a2 a3 x5_11 x23 x30 x8_55 x67 x74 x103 n x4_287_6 x287 h287_6))))))
def lp_X10_goTriangles_55 (F : Nat) (a0 : Nat) (a1 : Int32) (a2 : Int32) (a3 : Int32) (x5_11 : Int32) (x23 : Int32) (x30 : Int32) : Nat → Int32 → Int32 → e_H → Option (Except (Except (Except (Int32 × e_H) (Int32 × e_H)) (Int32 × e_H)) (Int32 × e_H))
  | 0, _, _, _ => none
  | n + 1, x4_55, x8_55, h_55 =>
    if 100 ≤ x8_55 then
      some (.ok (x4_55, h_55))
    else
      Option.bind (some (x8_55 - x8_55 / 10 * 10)) (fun x67 =>
      Option.bind (some (x8_55 / 10)) (fun x74 =>
      Option.bind (e_fA h_55 a0 8 15) (fun x77 =>
      Option.bind (f_X10_isPeg h_55 x77 x67 x74) (fun x84 =>
      e_bE (
          if x84 = 0 then
            some (.ok (x4_55, h_55))
          else
            Option.bind (f_X10_common F (x67 - x23) (x74 - x30)) (fun x103 =>
            Option.bind (some (x8_55 + 1)) (fun x112 =>
            e_bE (
                lp_X10_goTriangles_114 F a0 a1 a2 a3 x5_11 x23 x30 x8_55 x67 x74 x103 F x4_55 x112 h_55
              : Option (Except (Except (Except (Except (Except (Int32 × e_H) (Int32 × e_H)) (Int32 × e_H)) (Int32 × e_H)) (Int32 × e_H)) (Int32 × e_H))) (e_u2 (fun x4_293_5 h293_5 =>
            some (.ok (x4_293_5, h293_5))))))
        : Option (Except (Except (Except (Except (Int32 × e_H) (Int32 × e_H)) (Int32 × e_H)) (Int32 × e_H)) (Int32 × e_H))) (e_u2 (fun x4_293_4 h293_4 =>
      Option.bind (some (x8_55 + 1)) (fun x293 =>
      lp_X10_goTriangles_55 F a0 a1 a2 a3 x5_11 x23 x30 n x4_293_4 x293 h293_4)))))))
def lp_X10_goTriangles_11 (F : Nat) (a0 : Nat) (a1 : Int32) (a2 : Int32) (a3 : Int32) : Nat → Int32 → Int32 → e_H → Option (Except (Int32 × e_H) (Int32 × e_H))
  | 0, _, _, _ => none
  | n + 1, x4_11, x5_11, h_11 =>
    if 100 ≤ x5_11 then
      some (.ok (x4_11, h_11))
    else
      Option.bind (some (x5_11 - x5_11 / 10 * 10)) (fun x23 =>
      Option.bind (some (x5_11 / 10)) (fun x30 =>
      Option.bind (e_fA h_11 a0 8 15) (fun x33 =>
      Option.bind (f_X10_isPeg h_11 x33 x23 x30) (fun x40 =>
      e_bE (
          if x40 = 0 then
            some (.ok (x4_11, h_11))
          else
            Option.bind (some (x5_11 + 1)) (fun x53 =>
            e_bE (
                lp_X10_goTriangles_55 F a0 a1 a2 a3 x5_11 x23 x30 F x4_11 x53 h_11
              : Option (Except (Except (Except (Int32 × e_H) (Int32 × e_H)) (Int32 × e_H)) (Int32 × e_H))) (e_u2 (fun x4_299_3 h299_3 =>
            some (.ok (x4_299_3, h299_3)))))
        : Option (Except (Except (Int32 × e_H) (Int32 × e_H)) (Int32 × e_H))) (e_u2 (fun x4_299_2 h299_2 =>
      Option.bind (some (x5_11 + 1)) (fun x299 =>
      lp_X10_goTriangles_11 F a0 a1 a2 a3 n x4_299_2 x299 h299_2)))))))
def f_X10_goTriangles (F : Nat) (h : e_H) (a0 : Nat) (a1 : Int32) (a2 : Int32) (a3 : Int32) : Option (Int32 × e_H) :=
  Option.bind (e_gI h a0 8 37 (-1)) (fun h5 =>
  e_bE (
      lp_X10_goTriangles_11 F a0 a1 a2 a3 F 0 0 h5
    : Option (Except (Int32 × e_H) (Int32 × e_H))) (e_u2 (fun x4_305_1 h305_1 =>
  if a3 = (-1) then
    some (x4_305_1, h305_1)
  else
    some ((-1), h305_1))))
set_option maxHeartbeats 4000000 in
set_option maxRecDepth 100000 in
theorem ct_X10_goTriangles {l : Launch} {D : e_D} {B : Heap} {F : Nat} {d : Nat} {h : e_H} {a0 : Nat} {a1 : Int32} {a2 : Int32} {a3 : Int32} {v : Int32} {h1 : e_H} (hd : 3 ≤ d) (e : f_X10_goTriangles F h a0 a1 a2 a3 = some (v, h1)) : e_Run l D B d mX10_goTriangles [.ref a0, .int a1, .int a2, .int a3] h (.ok (some (.int v)), h1) := by
  refine e_start [some (.ref a0), some (.int a1), some (.int a2), some (.int a3), none, none, none, none, none, none, none, none, none, none, none, none, none] (by decide) rfl rfl rfl (Nat.le_of_ble_eq_true rfl) (fun K hl0 hD0 hB0 hM hd0 hr => ?_)
  subst hl0 hD0 hB0 hd0
  have ho : (k_M K).1.cls = "PegBandsModel" := by rw [hM]; rfl
  have hT : (k_M K).2.2.2.1 = some (.int) := by rw [hM]
  refine (show Sx K cX10_goTriangles 0 [some (.ref a0), some (.int a1), some (.int a2), some (.int a3), none, none, none, none, none, none, none, none, none, none, none, none, none] [] h (f_X10_goTriangles F h a0 a1 a2 a3) (fun w => w = (v, h1)) from ?_) _ e rfl
  clear e
  unfold f_X10_goTriangles
  refine S_iconst_ 0 (dc_X10_goTriangles 0 rfl) rfl ?_
  refine S_istore (L' := [some (.ref a0), some (.int a1), some (.int a2), some (.int a3), some (.int 0), none, none, none, none, none, none, none, none, none, none, none, none]) (dc_X10_goTriangles 1 rfl) rfl ?_
  refine S_aload_n (dc_X10_goTriangles 2 rfl) rfl ?_
  refine S_iconst_ (-1) (dc_X10_goTriangles 3 rfl) rfl ?_
  refine S_putI (dc_X10_goTriangles 4 rfl) ho fl_X10_408_8_37 (fun _ _ => rfl) (Or.inl rfl) rfl rfl (fun h5 e5 => ?_)
  refine S_iconst_ 0 (dc_X10_goTriangles 5 rfl) rfl ?_
  refine S_istore (L' := [some (.ref a0), some (.int a1), some (.int a2), some (.int a3), some (.int 0), some (.int 0), none, none, none, none, none, none, none, none, none, none, none]) (dc_X10_goTriangles 6 rfl) rfl ?_
  refine Sx.regKE2 (pc2 := 305) (L2 := fun (x4_305_1 : Int32) (h305_1 : e_H) => [none, none, none, some (.int a3), some (.int x4_305_1), none, none, none, none, none, none, none, none, none, none, none, none]) (st2 := fun (x4_305_1 : Int32) (h305_1 : e_H) => []) (h2 := fun (x4_305_1 : Int32) (h305_1 : e_H) => h305_1) ?_ (fun Q1 hK1 hE1 => ?_)
  · intro x4_305_1 h305_1
    show Sx K cX10_goTriangles 305 [none, none, none, some (.int a3), some (.int x4_305_1), none, none, none, none, none, none, none, none, none, none, none, none] [] h305_1 _ _
    refine S_iload_n (dc_X10_goTriangles 158 rfl) rfl ?_
    refine S_iconst_ (-1) (dc_X10_goTriangles 159 rfl) rfl ?_
    refine S_icmp_ne 315 (dc_X10_goTriangles 160 rfl) rfl (fun c307 => ?_) (fun c307 => ?_)
    · refine S_iconst_ (-1) (dc_X10_goTriangles 163 rfl) rfl ?_
      exact S_iret (dc_X10_goTriangles 164 rfl) hT rfl (e_rqI hr)
    · refine S_iload (dc_X10_goTriangles 161 rfl) rfl ?_
      refine S_goto 316 (dc_X10_goTriangles 162 rfl) rfl ?_
      exact S_iret (dc_X10_goTriangles 164 rfl) hT rfl (e_rqI hr)
  · have hK1 : ∀ (x4_305_1 : Int32) (h305_1 : e_H), Sx K cX10_goTriangles 305 [none, none, none, some (.int a3), some (.int x4_305_1), none, none, none, none, none, none, none, none, none, none, none, none] [] h305_1 (some (.ok (x4_305_1, h305_1))) Q1 := hK1
    have ih1 : ∀ (n : Nat) (x4_11 : Int32) (x5_11 : Int32) (h_11 : e_H), Sx K cX10_goTriangles 11 [some (.ref a0), some (.int a1), some (.int a2), some (.int a3), some (.int x4_11), some (.int x5_11), none, none, none, none, none, none, none, none, none, none, none] [] h_11 (lp_X10_goTriangles_11 F a0 a1 a2 a3 n x4_11 x5_11 h_11) Q1 := by
      intro n
      induction n with
      | zero => intro x4_11 x5_11 h_11; exact Sx.none
      | succ n ih1 =>
        intro x4_11 x5_11 h_11
        rw [lp_X10_goTriangles_11.eq_2]
        refine S_iload (dc_X10_goTriangles 7 rfl) rfl ?_
        refine S_bipush_ 100 (dc_X10_goTriangles 8 rfl) rfl ?_
        refine S_icmp_ge 305 (dc_X10_goTriangles 9 rfl) rfl (fun c15 => ?_) (fun c15 => ?_)
        · refine Sx.cut [false, false, false, true, true, false, true, true, true, true, true, true, true, true, true, true, true] ?_
          exact hK1 x4_11 h_11
        · refine S_iload (dc_X10_goTriangles 10 rfl) rfl ?_
          refine S_bipush_ 10 (dc_X10_goTriangles 11 rfl) rfl ?_
          refine S_irem (dc_X10_goTriangles 12 rfl) (by decide) ?_
          refine Sx.nameI (fun x23 n23 => ?_)
          refine S_istore (L' := [some (.ref a0), some (.int a1), some (.int a2), some (.int a3), some (.int x4_11), some (.int x5_11), some (.int x23), none, none, none, none, none, none, none, none, none, none]) (dc_X10_goTriangles 13 rfl) rfl ?_
          refine S_iload (dc_X10_goTriangles 14 rfl) rfl ?_
          refine S_bipush_ 10 (dc_X10_goTriangles 15 rfl) rfl ?_
          refine S_idiv (dc_X10_goTriangles 16 rfl) (by decide) ?_
          refine Sx.nameI (fun x30 n30 => ?_)
          refine S_istore (L' := [some (.ref a0), some (.int a1), some (.int a2), some (.int a3), some (.int x4_11), some (.int x5_11), some (.int x23), some (.int x30), none, none, none, none, none, none, none, none, none]) (dc_X10_goTriangles 17 rfl) rfl ?_
          refine S_aload_n (dc_X10_goTriangles 18 rfl) rfl ?_
          refine S_getA (dc_X10_goTriangles 19 rfl) ho fl_X10_13_8_15 (fun _ _ => rfl) (fun x33 e33 => ?_)
          refine S_iload (dc_X10_goTriangles 20 rfl) rfl ?_
          refine S_iload (dc_X10_goTriangles 21 rfl) rfl ?_
          refine S_roI (d := k_d K - 1) (e_callS (As := [.ref x33, .int x23, .int x30]) (rest := []) ok_X10_isPeg rfl (Nat.le_of_ble_eq_true rfl) (dc_X10_goTriangles 22 rfl) ho q1741 q1742 rfl (Nat.le_of_ble_eq_true rfl)) (by omega) (fun _ e => ct_X10_isPeg (by omega) e) (fun x40 e40 => ?_)
          refine Sx.regKE2 (pc2 := 299) (L2 := fun (x4_299_2 : Int32) (h299_2 : e_H) => [some (.ref a0), some (.int a1), some (.int a2), some (.int a3), some (.int x4_299_2), some (.int x5_11), none, none, none, none, none, none, none, none, none, none, none]) (st2 := fun (x4_299_2 : Int32) (h299_2 : e_H) => []) (h2 := fun (x4_299_2 : Int32) (h299_2 : e_H) => h299_2) ?_ (fun Q2 hK2 hE2 => ?_)
          · intro x4_299_2 h299_2
            show Sx K cX10_goTriangles 299 [some (.ref a0), some (.int a1), some (.int a2), some (.int a3), some (.int x4_299_2), some (.int x5_11), none, none, none, none, none, none, none, none, none, none, none] [] h299_2 _ _
            refine S_iincN 1 (L' := fun x299 => [some (.ref a0), some (.int a1), some (.int a2), some (.int a3), some (.int x4_299_2), some (.int x299), none, none, none, none, none, none, none, none, none, none, none]) (dc_X10_goTriangles 156 rfl) rfl rfl (fun _ => rfl) (fun x299 n299 => ?_)
            refine S_goto 11 (dc_X10_goTriangles 157 rfl) rfl ?_
            exact ih1 x4_299_2 x299 h299_2
          · have hK2 : ∀ (x4_299_2 : Int32) (h299_2 : e_H), Sx K cX10_goTriangles 299 [some (.ref a0), some (.int a1), some (.int a2), some (.int a3), some (.int x4_299_2), some (.int x5_11), none, none, none, none, none, none, none, none, none, none, none] [] h299_2 (some (.ok (x4_299_2, h299_2))) Q2 := hK2
            refine S_if_ne 49 (dc_X10_goTriangles 23 rfl) rfl (fun c43 => ?_) (fun c43 => ?_)
            · refine S_iload (dc_X10_goTriangles 25 rfl) rfl ?_
              refine S_iconst_ 1 (dc_X10_goTriangles 26 rfl) rfl ?_
              refine S_iadd (dc_X10_goTriangles 27 rfl) ?_
              refine Sx.nameI (fun x53 n53 => ?_)
              refine S_istore (L' := [some (.ref a0), some (.int a1), some (.int a2), some (.int a3), some (.int x4_11), some (.int x5_11), some (.int x23), some (.int x30), some (.int x53), none, none, none, none, none, none, none, none]) (dc_X10_goTriangles 28 rfl) rfl ?_
              refine Sx.regKE2 (pc2 := 299) (L2 := fun (x4_299_3 : Int32) (h299_3 : e_H) => [some (.ref a0), some (.int a1), some (.int a2), some (.int a3), some (.int x4_299_3), some (.int x5_11), none, none, none, none, none, none, none, none, none, none, none]) (st2 := fun (x4_299_3 : Int32) (h299_3 : e_H) => []) (h2 := fun (x4_299_3 : Int32) (h299_3 : e_H) => h299_3) ?_ (fun Q3 hK3 hE3 => ?_)
              · intro x4_299_3 h299_3
                show Sx K cX10_goTriangles 299 [some (.ref a0), some (.int a1), some (.int a2), some (.int a3), some (.int x4_299_3), some (.int x5_11), none, none, none, none, none, none, none, none, none, none, none] [] h299_3 _ _
                exact hK2 x4_299_3 h299_3
              · have hK3 : ∀ (x4_299_3 : Int32) (h299_3 : e_H), Sx K cX10_goTriangles 299 [some (.ref a0), some (.int a1), some (.int a2), some (.int a3), some (.int x4_299_3), some (.int x5_11), none, none, none, none, none, none, none, none, none, none, none] [] h299_3 (some (.ok (x4_299_3, h299_3))) Q3 := hK3
                have ih3 : ∀ (n : Nat) (x4_55 : Int32) (x8_55 : Int32) (h_55 : e_H), Sx K cX10_goTriangles 55 [some (.ref a0), some (.int a1), some (.int a2), some (.int a3), some (.int x4_55), some (.int x5_11), some (.int x23), some (.int x30), some (.int x8_55), none, none, none, none, none, none, none, none] [] h_55 (lp_X10_goTriangles_55 F a0 a1 a2 a3 x5_11 x23 x30 n x4_55 x8_55 h_55) Q3 := by
                  intro n
                  induction n with
                  | zero => intro x4_55 x8_55 h_55; exact Sx.none
                  | succ n ih3 =>
                    intro x4_55 x8_55 h_55
                    rw [lp_X10_goTriangles_55.eq_2]
                    refine S_iload (dc_X10_goTriangles 29 rfl) rfl ?_
                    refine S_bipush_ 100 (dc_X10_goTriangles 30 rfl) rfl ?_
                    refine S_icmp_ge 299 (dc_X10_goTriangles 31 rfl) rfl (fun c59 => ?_) (fun c59 => ?_)
                    · refine Sx.cut [true, true, true, true, true, true, false, false, false, true, true, true, true, true, true, true, true] ?_
                      exact hK3 x4_55 h_55
                    · refine S_iload (dc_X10_goTriangles 32 rfl) rfl ?_
                      refine S_bipush_ 10 (dc_X10_goTriangles 33 rfl) rfl ?_
                      refine S_irem (dc_X10_goTriangles 34 rfl) (by decide) ?_
                      refine Sx.nameI (fun x67 n67 => ?_)
                      refine S_istore (L' := [some (.ref a0), some (.int a1), some (.int a2), some (.int a3), some (.int x4_55), some (.int x5_11), some (.int x23), some (.int x30), some (.int x8_55), some (.int x67), none, none, none, none, none, none, none]) (dc_X10_goTriangles 35 rfl) rfl ?_
                      refine S_iload (dc_X10_goTriangles 36 rfl) rfl ?_
                      refine S_bipush_ 10 (dc_X10_goTriangles 37 rfl) rfl ?_
                      refine S_idiv (dc_X10_goTriangles 38 rfl) (by decide) ?_
                      refine Sx.nameI (fun x74 n74 => ?_)
                      refine S_istore (L' := [some (.ref a0), some (.int a1), some (.int a2), some (.int a3), some (.int x4_55), some (.int x5_11), some (.int x23), some (.int x30), some (.int x8_55), some (.int x67), some (.int x74), none, none, none, none, none, none]) (dc_X10_goTriangles 39 rfl) rfl ?_
                      refine S_aload_n (dc_X10_goTriangles 40 rfl) rfl ?_
                      refine S_getA (dc_X10_goTriangles 41 rfl) ho fl_X10_13_8_15 (fun _ _ => rfl) (fun x77 e77 => ?_)
                      refine S_iload (dc_X10_goTriangles 42 rfl) rfl ?_
                      refine S_iload (dc_X10_goTriangles 43 rfl) rfl ?_
                      refine S_roI (d := k_d K - 1) (e_callS (As := [.ref x77, .int x67, .int x74]) (rest := []) ok_X10_isPeg rfl (Nat.le_of_ble_eq_true rfl) (dc_X10_goTriangles 44 rfl) ho q1741 q1742 rfl (Nat.le_of_ble_eq_true rfl)) (by omega) (fun _ e => ct_X10_isPeg (by omega) e) (fun x84 e84 => ?_)
                      refine Sx.regKE2 (pc2 := 293) (L2 := fun (x4_293_4 : Int32) (h293_4 : e_H) => [some (.ref a0), some (.int a1), some (.int a2), some (.int a3), some (.int x4_293_4), some (.int x5_11), some (.int x23), some (.int x30), some (.int x8_55), none, none, none, none, none, none, none, none]) (st2 := fun (x4_293_4 : Int32) (h293_4 : e_H) => []) (h2 := fun (x4_293_4 : Int32) (h293_4 : e_H) => h293_4) ?_ (fun Q4 hK4 hE4 => ?_)
                      · intro x4_293_4 h293_4
                        show Sx K cX10_goTriangles 293 [some (.ref a0), some (.int a1), some (.int a2), some (.int a3), some (.int x4_293_4), some (.int x5_11), some (.int x23), some (.int x30), some (.int x8_55), none, none, none, none, none, none, none, none] [] h293_4 _ _
                        refine S_iincN 1 (L' := fun x293 => [some (.ref a0), some (.int a1), some (.int a2), some (.int a3), some (.int x4_293_4), some (.int x5_11), some (.int x23), some (.int x30), some (.int x293), none, none, none, none, none, none, none, none]) (dc_X10_goTriangles 154 rfl) rfl rfl (fun _ => rfl) (fun x293 n293 => ?_)
                        refine S_goto 55 (dc_X10_goTriangles 155 rfl) rfl ?_
                        exact ih3 x4_293_4 x293 h293_4
                      · have hK4 : ∀ (x4_293_4 : Int32) (h293_4 : e_H), Sx K cX10_goTriangles 293 [some (.ref a0), some (.int a1), some (.int a2), some (.int a3), some (.int x4_293_4), some (.int x5_11), some (.int x23), some (.int x30), some (.int x8_55), none, none, none, none, none, none, none, none] [] h293_4 (some (.ok (x4_293_4, h293_4))) Q4 := hK4
                        refine S_if_ne 93 (dc_X10_goTriangles 45 rfl) rfl (fun c87 => ?_) (fun c87 => ?_)
                        · refine S_iload (dc_X10_goTriangles 47 rfl) rfl ?_
                          refine S_iload (dc_X10_goTriangles 48 rfl) rfl ?_
                          refine S_isub (dc_X10_goTriangles 49 rfl) ?_
                          refine S_iload (dc_X10_goTriangles 50 rfl) rfl ?_
                          refine S_iload (dc_X10_goTriangles 51 rfl) rfl ?_
                          refine S_isub (dc_X10_goTriangles 52 rfl) ?_
                          refine S_roI (d := k_d K - 1) (e_callS (As := [.int (x67 - x23), .int (x74 - x30)]) (rest := []) ok_X10_common rfl (Nat.le_of_ble_eq_true rfl) (dc_X10_goTriangles 53 rfl) ho q1830 q1831 rfl (Nat.le_of_ble_eq_true rfl)) (by omega) (fun _ e => ct_X10_common (by omega) e) (fun x103 e103 => ?_)
                          refine S_istore (L' := [some (.ref a0), some (.int a1), some (.int a2), some (.int a3), some (.int x4_55), some (.int x5_11), some (.int x23), some (.int x30), some (.int x8_55), some (.int x67), some (.int x74), some (.int x103), none, none, none, none, none]) (dc_X10_goTriangles 54 rfl) rfl ?_
                          refine S_iload (dc_X10_goTriangles 55 rfl) rfl ?_
                          refine S_iconst_ 1 (dc_X10_goTriangles 56 rfl) rfl ?_
                          refine S_iadd (dc_X10_goTriangles 57 rfl) ?_
                          refine Sx.nameI (fun x112 n112 => ?_)
                          refine S_istore (L' := [some (.ref a0), some (.int a1), some (.int a2), some (.int a3), some (.int x4_55), some (.int x5_11), some (.int x23), some (.int x30), some (.int x8_55), some (.int x67), some (.int x74), some (.int x103), some (.int x112), none, none, none, none]) (dc_X10_goTriangles 58 rfl) rfl ?_
                          refine Sx.regKE2 (pc2 := 293) (L2 := fun (x4_293_5 : Int32) (h293_5 : e_H) => [some (.ref a0), some (.int a1), some (.int a2), some (.int a3), some (.int x4_293_5), some (.int x5_11), some (.int x23), some (.int x30), some (.int x8_55), none, none, none, none, none, none, none, none]) (st2 := fun (x4_293_5 : Int32) (h293_5 : e_H) => []) (h2 := fun (x4_293_5 : Int32) (h293_5 : e_H) => h293_5) ?_ (fun Q5 hK5 hE5 => ?_)
                          · intro x4_293_5 h293_5
                            show Sx K cX10_goTriangles 293 [some (.ref a0), some (.int a1), some (.int a2), some (.int a3), some (.int x4_293_5), some (.int x5_11), some (.int x23), some (.int x30), some (.int x8_55), none, none, none, none, none, none, none, none] [] h293_5 _ _
                            exact hK4 x4_293_5 h293_5
                          · have hK5 : ∀ (x4_293_5 : Int32) (h293_5 : e_H), Sx K cX10_goTriangles 293 [some (.ref a0), some (.int a1), some (.int a2), some (.int a3), some (.int x4_293_5), some (.int x5_11), some (.int x23), some (.int x30), some (.int x8_55), none, none, none, none, none, none, none, none] [] h293_5 (some (.ok (x4_293_5, h293_5))) Q5 := hK5
                            have ih5 : ∀ (n : Nat) (x4_114 : Int32) (x12_114 : Int32) (h_114 : e_H), Sx K cX10_goTriangles 114 [some (.ref a0), some (.int a1), some (.int a2), some (.int a3), some (.int x4_114), some (.int x5_11), some (.int x23), some (.int x30), some (.int x8_55), some (.int x67), some (.int x74), some (.int x103), some (.int x12_114), none, none, none, none] [] h_114 (lp_X10_goTriangles_114 F a0 a1 a2 a3 x5_11 x23 x30 x8_55 x67 x74 x103 n x4_114 x12_114 h_114) Q5 := by
                              intro n
                              induction n with
                              | zero => intro x4_114 x12_114 h_114; exact Sx.none
                              | succ n ih5 =>
                                intro x4_114 x12_114 h_114
                                rw [lp_X10_goTriangles_114.eq_2]
                                refine S_iload (dc_X10_goTriangles 59 rfl) rfl ?_
                                refine S_bipush_ 100 (dc_X10_goTriangles 60 rfl) rfl ?_
                                refine S_icmp_ge 293 (dc_X10_goTriangles 61 rfl) rfl (fun c118 => ?_) (fun c118 => ?_)
                                · refine Sx.cut [true, true, true, true, true, true, true, true, true, false, false, false, false, true, true, true, true] ?_
                                  exact hK5 x4_114 h_114
                                · refine S_iload (dc_X10_goTriangles 62 rfl) rfl ?_
                                  refine S_bipush_ 10 (dc_X10_goTriangles 63 rfl) rfl ?_
                                  refine S_irem (dc_X10_goTriangles 64 rfl) (by decide) ?_
                                  refine Sx.nameI (fun x126 n126 => ?_)
                                  refine S_istore (L' := [some (.ref a0), some (.int a1), some (.int a2), some (.int a3), some (.int x4_114), some (.int x5_11), some (.int x23), some (.int x30), some (.int x8_55), some (.int x67), some (.int x74), some (.int x103), some (.int x12_114), some (.int x126), none, none, none]) (dc_X10_goTriangles 65 rfl) rfl ?_
                                  refine S_iload (dc_X10_goTriangles 66 rfl) rfl ?_
                                  refine S_bipush_ 10 (dc_X10_goTriangles 67 rfl) rfl ?_
                                  refine S_idiv (dc_X10_goTriangles 68 rfl) (by decide) ?_
                                  refine Sx.nameI (fun x133 n133 => ?_)
                                  refine S_istore (L' := [some (.ref a0), some (.int a1), some (.int a2), some (.int a3), some (.int x4_114), some (.int x5_11), some (.int x23), some (.int x30), some (.int x8_55), some (.int x67), some (.int x74), some (.int x103), some (.int x12_114), some (.int x126), some (.int x133), none, none]) (dc_X10_goTriangles 69 rfl) rfl ?_
                                  refine S_iload (dc_X10_goTriangles 70 rfl) rfl ?_
                                  refine S_iload (dc_X10_goTriangles 71 rfl) rfl ?_
                                  refine S_isub (dc_X10_goTriangles 72 rfl) ?_
                                  refine S_iload (dc_X10_goTriangles 73 rfl) rfl ?_
                                  refine S_iload (dc_X10_goTriangles 74 rfl) rfl ?_
                                  refine S_isub (dc_X10_goTriangles 75 rfl) ?_
                                  refine S_imul (dc_X10_goTriangles 76 rfl) ?_
                                  refine S_iload (dc_X10_goTriangles 77 rfl) rfl ?_
                                  refine S_iload (dc_X10_goTriangles 78 rfl) rfl ?_
                                  refine S_isub (dc_X10_goTriangles 79 rfl) ?_
                                  refine S_iload (dc_X10_goTriangles 80 rfl) rfl ?_
                                  refine S_iload (dc_X10_goTriangles 81 rfl) rfl ?_
                                  refine S_isub (dc_X10_goTriangles 82 rfl) ?_
                                  refine S_imul (dc_X10_goTriangles 83 rfl) ?_
                                  refine S_isub (dc_X10_goTriangles 84 rfl) ?_
                                  refine S_roI (d := k_d K - 1) (e_callS (As := [.int (((x67 - x23) * (x133 - x30)) - ((x74 - x30) * (x126 - x23)))]) (rest := []) ok_X10_size rfl (Nat.le_of_ble_eq_true rfl) (dc_X10_goTriangles 85 rfl) ho q1823 q1824 rfl (Nat.le_of_ble_eq_true rfl)) (by omega) (fun _ e => ct_X10_size (by omega) e) (fun x158 e158 => ?_)
                                  refine S_istore (L' := [some (.ref a0), some (.int a1), some (.int a2), some (.int a3), some (.int x4_114), some (.int x5_11), some (.int x23), some (.int x30), some (.int x8_55), some (.int x67), some (.int x74), some (.int x103), some (.int x12_114), some (.int x126), some (.int x133), some (.int x158), none]) (dc_X10_goTriangles 86 rfl) rfl ?_
                                  refine S_iload (dc_X10_goTriangles 87 rfl) rfl ?_
                                  refine Sx.regKE2 (pc2 := 287) (L2 := fun (x4_287_6 : Int32) (h287_6 : e_H) => [some (.ref a0), some (.int a1), some (.int a2), some (.int a3), some (.int x4_287_6), some (.int x5_11), some (.int x23), some (.int x30), some (.int x8_55), some (.int x67), some (.int x74), some (.int x103), some (.int x12_114), none, none, none, none]) (st2 := fun (x4_287_6 : Int32) (h287_6 : e_H) => []) (h2 := fun (x4_287_6 : Int32) (h287_6 : e_H) => h287_6) ?_ (fun Q6 hK6 hE6 => ?_)
                                  · intro x4_287_6 h287_6
                                    show Sx K cX10_goTriangles 287 [some (.ref a0), some (.int a1), some (.int a2), some (.int a3), some (.int x4_287_6), some (.int x5_11), some (.int x23), some (.int x30), some (.int x8_55), some (.int x67), some (.int x74), some (.int x103), some (.int x12_114), none, none, none, none] [] h287_6 _ _
                                    refine S_iincN 1 (L' := fun x287 => [some (.ref a0), some (.int a1), some (.int a2), some (.int a3), some (.int x4_287_6), some (.int x5_11), some (.int x23), some (.int x30), some (.int x8_55), some (.int x67), some (.int x74), some (.int x103), some (.int x287), none, none, none, none]) (dc_X10_goTriangles 152 rfl) rfl rfl (fun _ => rfl) (fun x287 n287 => ?_)
                                    refine S_goto 114 (dc_X10_goTriangles 153 rfl) rfl ?_
                                    exact ih5 x4_287_6 x287 h287_6
                                  · have hK6 : ∀ (x4_287_6 : Int32) (h287_6 : e_H), Sx K cX10_goTriangles 287 [some (.ref a0), some (.int a1), some (.int a2), some (.int a3), some (.int x4_287_6), some (.int x5_11), some (.int x23), some (.int x30), some (.int x8_55), some (.int x67), some (.int x74), some (.int x103), some (.int x12_114), none, none, none, none] [] h287_6 (some (.ok (x4_287_6, h287_6))) Q6 := hK6
                                    refine S_if_eq 287 (dc_X10_goTriangles 88 rfl) rfl (fun c165 => ?_) (fun c165 => ?_)
                                    · refine Sx.cut [true, true, true, true, true, true, true, true, true, true, true, true, true, false, false, false, true] ?_
                                      exact hK6 x4_114 h_114
                                    · refine S_aload_n (dc_X10_goTriangles 89 rfl) rfl ?_
                                      refine S_getA (dc_X10_goTriangles 90 rfl) ho fl_X10_13_8_15 (fun _ _ => rfl) (fun x169 e169 => ?_)
                                      refine S_iload (dc_X10_goTriangles 91 rfl) rfl ?_
                                      refine S_iload (dc_X10_goTriangles 92 rfl) rfl ?_
                                      refine S_roI (d := k_d K - 1) (e_callS (As := [.ref x169, .int x126, .int x133]) (rest := []) ok_X10_isPeg rfl (Nat.le_of_ble_eq_true rfl) (dc_X10_goTriangles 93 rfl) ho q1741 q1742 rfl (Nat.le_of_ble_eq_true rfl)) (by omega) (fun _ e => ct_X10_isPeg (by omega) e) (fun x176 e176 => ?_)
                                      refine S_if_ne 185 (dc_X10_goTriangles 94 rfl) rfl (fun c179 => ?_) (fun c179 => ?_)
                                      · refine S_iload (dc_X10_goTriangles 96 rfl) rfl ?_
                                        refine S_iload (dc_X10_goTriangles 97 rfl) rfl ?_
                                        refine S_iload (dc_X10_goTriangles 98 rfl) rfl ?_
                                        refine S_isub (dc_X10_goTriangles 99 rfl) ?_
                                        refine S_iload (dc_X10_goTriangles 100 rfl) rfl ?_
                                        refine S_iload (dc_X10_goTriangles 101 rfl) rfl ?_
                                        refine S_isub (dc_X10_goTriangles 102 rfl) ?_
                                        refine S_roI (d := k_d K - 1) (e_callS (As := [.int (x126 - x67), .int (x133 - x74)]) (rest := [.int x103]) ok_X10_common rfl (Nat.le_of_ble_eq_true rfl) (dc_X10_goTriangles 103 rfl) ho q1830 q1831 rfl (Nat.le_of_ble_eq_true rfl)) (by omega) (fun _ e => ct_X10_common (by omega) e) (fun x197 e197 => ?_)
                                        refine S_iadd (dc_X10_goTriangles 104 rfl) ?_
                                        refine S_iload (dc_X10_goTriangles 105 rfl) rfl ?_
                                        refine S_iload (dc_X10_goTriangles 106 rfl) rfl ?_
                                        refine S_isub (dc_X10_goTriangles 107 rfl) ?_
                                        refine S_iload (dc_X10_goTriangles 108 rfl) rfl ?_
                                        refine S_iload (dc_X10_goTriangles 109 rfl) rfl ?_
                                        refine S_isub (dc_X10_goTriangles 110 rfl) ?_
                                        refine S_roI (d := k_d K - 1) (e_callS (As := [.int (x126 - x23), .int (x133 - x30)]) (rest := [.int (x103 + x197)]) ok_X10_common rfl (Nat.le_of_ble_eq_true rfl) (dc_X10_goTriangles 111 rfl) ho q1830 q1831 rfl (Nat.le_of_ble_eq_true rfl)) (by omega) (fun _ e => ct_X10_common (by omega) e) (fun x211 e211 => ?_)
                                        refine S_iadd (dc_X10_goTriangles 112 rfl) ?_
                                        refine Sx.nameI (fun x215 n215 => ?_)
                                        refine S_istore (L' := [some (.ref a0), some (.int a1), some (.int a2), some (.int a3), some (.int x4_114), some (.int x5_11), some (.int x23), some (.int x30), some (.int x8_55), some (.int x67), some (.int x74), some (.int x103), some (.int x12_114), some (.int x126), some (.int x133), some (.int x158), some (.int x215)]) (dc_X10_goTriangles 113 rfl) rfl ?_
                                        refine S_iload (dc_X10_goTriangles 114 rfl) rfl ?_
                                        refine S_iload_n (dc_X10_goTriangles 115 rfl) rfl ?_
                                        refine S_icmp_ne 287 (dc_X10_goTriangles 116 rfl) rfl (fun c220 => ?_) (fun c220 => ?_)
                                        · refine Sx.cut [true, true, true, true, true, true, true, true, true, true, true, true, true, false, false, false, false] ?_
                                          exact hK6 x4_114 h_114
                                        · refine S_iload (dc_X10_goTriangles 117 rfl) rfl ?_
                                          refine S_iload (dc_X10_goTriangles 118 rfl) rfl ?_
                                          refine S_isub (dc_X10_goTriangles 119 rfl) ?_
                                          refine S_iconst_ 2 (dc_X10_goTriangles 120 rfl) rfl ?_
                                          refine S_iadd (dc_X10_goTriangles 121 rfl) ?_
                                          refine S_iconst_ 2 (dc_X10_goTriangles 122 rfl) rfl ?_
                                          refine S_idiv (dc_X10_goTriangles 123 rfl) (by decide) ?_
                                          refine S_iload_n (dc_X10_goTriangles 124 rfl) rfl ?_
                                          refine S_icmp_eq 239 (dc_X10_goTriangles 125 rfl) rfl (fun c233 => ?_) (fun c233 => ?_)
                                          · refine S_iload (dc_X10_goTriangles 127 rfl) rfl ?_
                                            refine S_iload_n (dc_X10_goTriangles 128 rfl) rfl ?_
                                            refine S_icmp_ne 261 (dc_X10_goTriangles 129 rfl) rfl (fun c242 => ?_) (fun c242 => ?_)
                                            · refine S_iincN 1 (L' := fun x261 => [some (.ref a0), some (.int a1), some (.int a2), some (.int a3), some (.int x261), some (.int x5_11), some (.int x23), some (.int x30), some (.int x8_55), some (.int x67), some (.int x74), some (.int x103), some (.int x12_114), some (.int x126), some (.int x133), some (.int x158), some (.int x215)]) (dc_X10_goTriangles 140 rfl) rfl rfl (fun _ => rfl) (fun x261 n261 => ?_)
                                              refine S_aload_n (dc_X10_goTriangles 141 rfl) rfl ?_
                                              refine S_getI (dc_X10_goTriangles 142 rfl) ho fl_X10_408_8_37 (fun _ _ => rfl) (fun x265 e265 => ?_)
                                              refine S_iconst_ (-1) (dc_X10_goTriangles 143 rfl) rfl ?_
                                              refine Sx.regKE0 (pc2 := 281) (L2 := [some (.ref a0), some (.int a1), some (.int a2), some (.int a3), some (.int x261), some (.int x5_11), some (.int x23), some (.int x30), some (.int x8_55), some (.int x67), some (.int x74), some (.int x103), some (.int x12_114), none, none, some (.int x158), none]) (st2 := []) (h2 := h_114) ?_ (fun Q7 hK7 hE7 => ?_)
                                              · skip
                                                refine S_aload_n (dc_X10_goTriangles 149 rfl) rfl ?_
                                                refine S_iload (dc_X10_goTriangles 150 rfl) rfl ?_
                                                refine S_putI (dc_X10_goTriangles 151 rfl) ho fl_X10_408_8_37 (fun _ _ => rfl) (Or.inl rfl) rfl rfl (fun h284 e284 => ?_)
                                                refine Sx.cut [true, true, true, true, true, true, true, true, true, true, true, true, true, true, true, false, true] ?_
                                                exact hK6 x261 h284
                                              · have hK7 : Sx K cX10_goTriangles 281 [some (.ref a0), some (.int a1), some (.int a2), some (.int a3), some (.int x261), some (.int x5_11), some (.int x23), some (.int x30), some (.int x8_55), some (.int x67), some (.int x74), some (.int x103), some (.int x12_114), none, none, some (.int x158), none] [] h_114 (some (.ok ())) Q7 := hK7
                                                refine S_icmp_eq 281 (dc_X10_goTriangles 144 rfl) rfl (fun c269 => ?_) (fun c269 => ?_)
                                                · refine Sx.cut [true, true, true, true, true, true, true, true, true, true, true, true, true, false, false, true, false] ?_
                                                  exact hK7
                                                · refine S_iload (dc_X10_goTriangles 145 rfl) rfl ?_
                                                  refine S_aload_n (dc_X10_goTriangles 146 rfl) rfl ?_
                                                  refine S_getI (dc_X10_goTriangles 147 rfl) ho fl_X10_408_8_37 (fun _ _ => rfl) (fun x275 e275 => ?_)
                                                  refine S_icmp_ge 287 (dc_X10_goTriangles 148 rfl) rfl (fun c278 => ?_) (fun c278 => ?_)
                                                  · refine Sx.cut [true, true, true, true, true, true, true, true, true, true, true, true, true, false, false, false, false] ?_
                                                    refine Sx.err hE7 ?_
                                                    exact hK6 x261 h_114
                                                  · refine Sx.cut [true, true, true, true, true, true, true, true, true, true, true, true, true, false, false, true, false] ?_
                                                    exact hK7
                                            · refine S_sipush_ 10000 (dc_X10_goTriangles 130 rfl) rfl ?_
                                              refine S_iload (dc_X10_goTriangles 131 rfl) rfl ?_
                                              refine S_imul (dc_X10_goTriangles 132 rfl) ?_
                                              refine S_bipush_ 100 (dc_X10_goTriangles 133 rfl) rfl ?_
                                              refine S_iload (dc_X10_goTriangles 134 rfl) rfl ?_
                                              refine S_imul (dc_X10_goTriangles 135 rfl) ?_
                                              refine S_iadd (dc_X10_goTriangles 136 rfl) ?_
                                              refine S_iload (dc_X10_goTriangles 137 rfl) rfl ?_
                                              refine S_iadd (dc_X10_goTriangles 138 rfl) ?_
                                              refine Sx.err hE6 ?_
                                              refine Sx.err hE5 ?_
                                              refine Sx.err hE4 ?_
                                              refine Sx.err hE3 ?_
                                              refine Sx.err hE2 ?_
                                              refine Sx.err hE1 ?_
                                              exact S_iret (dc_X10_goTriangles 139 rfl) hT rfl (e_rqI hr)
                                          · refine S_goto 287 (dc_X10_goTriangles 126 rfl) rfl ?_
                                            refine Sx.cut [true, true, true, true, true, true, true, true, true, true, true, true, true, false, false, false, false] ?_
                                            exact hK6 x4_114 h_114
                                      · refine S_goto 287 (dc_X10_goTriangles 95 rfl) rfl ?_
                                        refine Sx.cut [true, true, true, true, true, true, true, true, true, true, true, true, true, false, false, false, true] ?_
                                        exact hK6 x4_114 h_114
                            exact ih5 F x4_55 x112 h_55
                        · refine S_goto 293 (dc_X10_goTriangles 46 rfl) rfl ?_
                          refine Sx.cut [true, true, true, true, true, true, true, true, true, false, false, true, true, true, true, true, true] ?_
                          exact hK4 x4_55 h_55
                exact ih3 F x4_11 x53 h_11
            · refine S_goto 299 (dc_X10_goTriangles 24 rfl) rfl ?_
              refine Sx.cut [true, true, true, true, true, true, false, false, true, true, true, true, true, true, true, true, true] ?_
              exact hK2 x4_11 h_11
    exact ih1 F 0 0 h5
abbrev cX10_triangles : ByteArray := prog_18_method_110_code
def yX10_triangles : MethodName := ⟨"PegBandsModel", "triangles", "(III)I"⟩
def tb_X10_triangles : List (Nat × Instr × Nat) := [(0, .aload_n 0, 1), (1, .iconst 0, 1), (2, .putfield 94, 3), (5, .iload_n 1, 1), (6, .iconst 0, 1), (7, .sipush 999, 3), (10, .invokestatic 168, 3), (13, .ifCond .eq 33, 3), (16, .iload_n 2, 1), (17, .iconst 0, 1), (18, .sipush 999, 3), (21, .invokestatic 168, 3), (24, .ifCond .eq 22, 3), (27, .aload_n 0, 1), (28, .getfield 13, 3), (31, .iconst 0, 1), (32, .iaload, 1), (33, .ifCond .le 13, 3), (36, .aload_n 0, 1), (37, .iload_n 1, 1), (38, .iload_n 2, 1), (39, .iload_n 3, 1), (40, .invokevirtual 411, 3), (43, .goto 4, 3), (46, .iconst (-1), 1), (47, .ireturn, 1)]
theorem tk_X10_triangles : ∀ q ∈ tb_X10_triangles, decode cX10_triangles q.1 = .ok q.2 := by decide +kernel
theorem dc_X10_triangles (k : Nat) {pc n : Nat} {i : Instr} (h : tb_X10_triangles[k]? = some (pc, i, n)) : decode cX10_triangles pc = .ok (i, n) := tk_X10_triangles (pc, i, n) (List.mem_of_getElem? h)
abbrev mX10_triangles : e_M := (yX10_triangles, cX10_triangles, 4, some (.int), [])
theorem ok_X10_triangles : e_mok mX10_triangles 3 := ⟨q2031, q119, by decide +kernel, fun sig h => by cases h; rfl⟩
def f_X10_triangles (F : Nat) (h : e_H) (a0 : Nat) (a1 : Int32) (a2 : Int32) (a3 : Int32) : Option (Int32 × e_H) :=
  Option.bind (e_gI h a0 8 0 0) (fun h2 =>
  Option.bind (f_X10_isIn a1 0 999) (fun x10 =>
  if x10 = 0 then
    some ((-1), h2)
  else
    Option.bind (f_X10_isIn a2 0 999) (fun x21 =>
    if x21 = 0 then
      some ((-1), h2)
    else
      Option.bind (e_fA h2 a0 8 15) (fun x28 =>
      Option.bind (e_aI h2 x28 0 0) (fun x32 =>
      if x32 ≤ 0 then
        some ((-1), h2)
      else
        e_b2 (f_X10_goTriangles F h2 a0 a1 a2 a3) (fun x40 h40 =>
        some (x40, h40)))))))
set_option maxHeartbeats 4000000 in
set_option maxRecDepth 100000 in
theorem ct_X10_triangles {l : Launch} {D : e_D} {B : Heap} {F : Nat} {d : Nat} {h : e_H} {a0 : Nat} {a1 : Int32} {a2 : Int32} {a3 : Int32} {v : Int32} {h1 : e_H} (hd : 4 ≤ d) (e : f_X10_triangles F h a0 a1 a2 a3 = some (v, h1)) : e_Run l D B d mX10_triangles [.ref a0, .int a1, .int a2, .int a3] h (.ok (some (.int v)), h1) := by
  refine e_start [some (.ref a0), some (.int a1), some (.int a2), some (.int a3)] (by decide) rfl rfl rfl (Nat.le_of_ble_eq_true rfl) (fun K hl0 hD0 hB0 hM hd0 hr => ?_)
  subst hl0 hD0 hB0 hd0
  have ho : (k_M K).1.cls = "PegBandsModel" := by rw [hM]; rfl
  have hT : (k_M K).2.2.2.1 = some (.int) := by rw [hM]
  refine (show Sx K cX10_triangles 0 [some (.ref a0), some (.int a1), some (.int a2), some (.int a3)] [] h (f_X10_triangles F h a0 a1 a2 a3) (fun w => w = (v, h1)) from ?_) _ e rfl
  clear e
  unfold f_X10_triangles
  refine S_aload_n (dc_X10_triangles 0 rfl) rfl ?_
  refine S_iconst_ 0 (dc_X10_triangles 1 rfl) rfl ?_
  refine S_putI (dc_X10_triangles 2 rfl) ho fl_X10_94_8_0 (fun _ _ => rfl) (Or.inl rfl) rfl rfl (fun h2 e2 => ?_)
  refine S_iload_n (dc_X10_triangles 3 rfl) rfl ?_
  refine S_iconst_ 0 (dc_X10_triangles 4 rfl) rfl ?_
  refine S_sipush_ 999 (dc_X10_triangles 5 rfl) rfl ?_
  refine S_roI (d := k_d K - 1) (e_callS (As := [.int a1, .int 0, .int 999]) (rest := []) ok_X10_isIn rfl (Nat.le_of_ble_eq_true rfl) (dc_X10_triangles 6 rfl) ho q1699 q1700 rfl (Nat.le_of_ble_eq_true rfl)) (by omega) (fun _ e => ct_X10_isIn (by omega) e) (fun x10 e10 => ?_)
  refine S_if_eq 46 (dc_X10_triangles 7 rfl) rfl (fun c13 => ?_) (fun c13 => ?_)
  · refine S_iconst_ (-1) (dc_X10_triangles 24 rfl) rfl ?_
    exact S_iret (dc_X10_triangles 25 rfl) hT rfl (e_rqI hr)
  · refine S_iload_n (dc_X10_triangles 8 rfl) rfl ?_
    refine S_iconst_ 0 (dc_X10_triangles 9 rfl) rfl ?_
    refine S_sipush_ 999 (dc_X10_triangles 10 rfl) rfl ?_
    refine S_roI (d := k_d K - 1) (e_callS (As := [.int a2, .int 0, .int 999]) (rest := []) ok_X10_isIn rfl (Nat.le_of_ble_eq_true rfl) (dc_X10_triangles 11 rfl) ho q1699 q1700 rfl (Nat.le_of_ble_eq_true rfl)) (by omega) (fun _ e => ct_X10_isIn (by omega) e) (fun x21 e21 => ?_)
    refine S_if_eq 46 (dc_X10_triangles 12 rfl) rfl (fun c24 => ?_) (fun c24 => ?_)
    · refine S_iconst_ (-1) (dc_X10_triangles 24 rfl) rfl ?_
      exact S_iret (dc_X10_triangles 25 rfl) hT rfl (e_rqI hr)
    · refine S_aload_n (dc_X10_triangles 13 rfl) rfl ?_
      refine S_getA (dc_X10_triangles 14 rfl) ho fl_X10_13_8_15 (fun _ _ => rfl) (fun x28 e28 => ?_)
      refine S_iconst_ 0 (dc_X10_triangles 15 rfl) rfl ?_
      refine S_iald (dc_X10_triangles 16 rfl) (fun x32 e32 => ?_)
      refine S_if_le 46 (dc_X10_triangles 17 rfl) rfl (fun c33 => ?_) (fun c33 => ?_)
      · refine S_iconst_ (-1) (dc_X10_triangles 24 rfl) rfl ?_
        exact S_iret (dc_X10_triangles 25 rfl) hT rfl (e_rqI hr)
      · refine S_aload_n (dc_X10_triangles 18 rfl) rfl ?_
        refine S_iload_n (dc_X10_triangles 19 rfl) rfl ?_
        refine S_iload_n (dc_X10_triangles 20 rfl) rfl ?_
        refine S_iload_n (dc_X10_triangles 21 rfl) rfl ?_
        refine S_rwI (d := k_d K - 1) (e_callV (b := a0) (As := [.int a1, .int a2, .int a3]) (rest := []) ok_X10_goTriangles rfl (Nat.le_of_ble_eq_true rfl) (dc_X10_triangles 22 rfl) ho q2032 q2034 (show e_cl[8]? = some (RX10, TX10, 51) from rfl) (e_sel.of qs87) (e_fA_of e28).1 rfl (Nat.le_of_ble_eq_true rfl)) (by omega) (fun _ _ e => ct_X10_goTriangles (by omega) e) (fun x40 h40 e40 => ?_)
        refine S_goto 47 (dc_X10_triangles 23 rfl) rfl ?_
        exact S_iret (dc_X10_triangles 25 rfl) hT rfl (e_rqI hr)
abbrev cX10_smallest : ByteArray := prog_18_method_111_code
def yX10_smallest : MethodName := ⟨"PegBandsModel", "smallest", "(II)I"⟩
def tb_X10_smallest : List (Nat × Instr × Nat) := [(0, .aload_n 0, 1), (1, .iconst 0, 1), (2, .putfield 94, 3), (5, .iload_n 1, 1), (6, .iconst 0, 1), (7, .sipush 999, 3), (10, .invokestatic 168, 3), (13, .ifCond .eq 14, 3), (16, .iload_n 2, 1), (17, .iconst 0, 1), (18, .sipush 999, 3), (21, .invokestatic 168, 3), (24, .ifCond .ne 5, 3), (27, .iconst (-1), 1), (28, .ireturn, 1), (29, .aload_n 0, 1), (30, .iload_n 1, 1), (31, .iload_n 2, 1), (32, .iconst (-1), 1), (33, .invokevirtual 411, 3), (36, .pop, 1), (37, .aload_n 0, 1), (38, .getfield 408, 3), (41, .ireturn, 1)]
theorem tk_X10_smallest : ∀ q ∈ tb_X10_smallest, decode cX10_smallest q.1 = .ok q.2 := by decide +kernel
theorem dc_X10_smallest (k : Nat) {pc n : Nat} {i : Instr} (h : tb_X10_smallest[k]? = some (pc, i, n)) : decode cX10_smallest pc = .ok (i, n) := tk_X10_smallest (pc, i, n) (List.mem_of_getElem? h)
abbrev mX10_smallest : e_M := (yX10_smallest, cX10_smallest, 3, some (.int), [])
theorem ok_X10_smallest : e_mok mX10_smallest 2 := ⟨q2039, q119, by decide +kernel, fun sig h => by cases h; rfl⟩
def f_X10_smallest (F : Nat) (h : e_H) (a0 : Nat) (a1 : Int32) (a2 : Int32) : Option (Int32 × e_H) :=
  Option.bind (e_gI h a0 8 0 0) (fun h2 =>
  Option.bind (f_X10_isIn a1 0 999) (fun x10 =>
  if x10 = 0 then
    some ((-1), h2)
  else
    Option.bind (f_X10_isIn a2 0 999) (fun x21 =>
    if x21 = 0 then
      some ((-1), h2)
    else
      Option.bind (e_is h2 a0 8) (fun _ =>
      e_b2 (f_X10_goTriangles F h2 a0 a1 a2 (-1)) (fun x33 h33 =>
      Option.bind (e_fI h33 a0 8 37) (fun x38 =>
      some (x38, h33)))))))
set_option maxHeartbeats 4000000 in
set_option maxRecDepth 100000 in
theorem ct_X10_smallest {l : Launch} {D : e_D} {B : Heap} {F : Nat} {d : Nat} {h : e_H} {a0 : Nat} {a1 : Int32} {a2 : Int32} {v : Int32} {h1 : e_H} (hd : 4 ≤ d) (e : f_X10_smallest F h a0 a1 a2 = some (v, h1)) : e_Run l D B d mX10_smallest [.ref a0, .int a1, .int a2] h (.ok (some (.int v)), h1) := by
  refine e_start [some (.ref a0), some (.int a1), some (.int a2)] (by decide) rfl rfl rfl (Nat.le_of_ble_eq_true rfl) (fun K hl0 hD0 hB0 hM hd0 hr => ?_)
  subst hl0 hD0 hB0 hd0
  have ho : (k_M K).1.cls = "PegBandsModel" := by rw [hM]; rfl
  have hT : (k_M K).2.2.2.1 = some (.int) := by rw [hM]
  refine (show Sx K cX10_smallest 0 [some (.ref a0), some (.int a1), some (.int a2)] [] h (f_X10_smallest F h a0 a1 a2) (fun w => w = (v, h1)) from ?_) _ e rfl
  clear e
  unfold f_X10_smallest
  refine S_aload_n (dc_X10_smallest 0 rfl) rfl ?_
  refine S_iconst_ 0 (dc_X10_smallest 1 rfl) rfl ?_
  refine S_putI (dc_X10_smallest 2 rfl) ho fl_X10_94_8_0 (fun _ _ => rfl) (Or.inl rfl) rfl rfl (fun h2 e2 => ?_)
  refine S_iload_n (dc_X10_smallest 3 rfl) rfl ?_
  refine S_iconst_ 0 (dc_X10_smallest 4 rfl) rfl ?_
  refine S_sipush_ 999 (dc_X10_smallest 5 rfl) rfl ?_
  refine S_roI (d := k_d K - 1) (e_callS (As := [.int a1, .int 0, .int 999]) (rest := []) ok_X10_isIn rfl (Nat.le_of_ble_eq_true rfl) (dc_X10_smallest 6 rfl) ho q1699 q1700 rfl (Nat.le_of_ble_eq_true rfl)) (by omega) (fun _ e => ct_X10_isIn (by omega) e) (fun x10 e10 => ?_)
  refine S_if_eq 27 (dc_X10_smallest 7 rfl) rfl (fun c13 => ?_) (fun c13 => ?_)
  · refine S_iconst_ (-1) (dc_X10_smallest 13 rfl) rfl ?_
    exact S_iret (dc_X10_smallest 14 rfl) hT rfl (e_rqI hr)
  · refine S_iload_n (dc_X10_smallest 8 rfl) rfl ?_
    refine S_iconst_ 0 (dc_X10_smallest 9 rfl) rfl ?_
    refine S_sipush_ 999 (dc_X10_smallest 10 rfl) rfl ?_
    refine S_roI (d := k_d K - 1) (e_callS (As := [.int a2, .int 0, .int 999]) (rest := []) ok_X10_isIn rfl (Nat.le_of_ble_eq_true rfl) (dc_X10_smallest 11 rfl) ho q1699 q1700 rfl (Nat.le_of_ble_eq_true rfl)) (by omega) (fun _ e => ct_X10_isIn (by omega) e) (fun x21 e21 => ?_)
    refine S_if_ne 29 (dc_X10_smallest 12 rfl) rfl (fun c24 => ?_) (fun c24 => ?_)
    · refine S_aload_n (dc_X10_smallest 15 rfl) rfl ?_
      refine S_iload_n (dc_X10_smallest 16 rfl) rfl ?_
      refine S_iload_n (dc_X10_smallest 17 rfl) rfl ?_
      refine S_iconst_ (-1) (dc_X10_smallest 18 rfl) rfl ?_
      refine Sx.ask (fun _ i33 => ?_)
      refine S_rwI (d := k_d K - 1) (e_callV (b := a0) (As := [.int a1, .int a2, .int (-1)]) (rest := []) ok_X10_goTriangles rfl (Nat.le_of_ble_eq_true rfl) (dc_X10_smallest 19 rfl) ho q2032 q2034 (show e_cl[8]? = some (RX10, TX10, 51) from rfl) (e_sel.of qs87) (e_is_of i33) rfl (Nat.le_of_ble_eq_true rfl)) (by omega) (fun _ _ e => ct_X10_goTriangles (by omega) e) (fun x33 h33 e33 => ?_)
      refine S_pop (dc_X10_smallest 20 rfl) rfl ?_
      refine S_aload_n (dc_X10_smallest 21 rfl) rfl ?_
      refine S_getI (dc_X10_smallest 22 rfl) ho fl_X10_408_8_37 (fun _ _ => rfl) (fun x38 e38 => ?_)
      exact S_iret (dc_X10_smallest 23 rfl) hT rfl (e_rqI hr)
    · refine S_iconst_ (-1) (dc_X10_smallest 13 rfl) rfl ?_
      exact S_iret (dc_X10_smallest 14 rfl) hT rfl (e_rqI hr)
