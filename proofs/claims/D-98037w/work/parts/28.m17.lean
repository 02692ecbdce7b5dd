/-! printed by gen/gen.py -/
set_option maxRecDepth 100000
abbrev cX1_triangles : ByteArray := prog_1_method_61_code
def yX1_triangles : MethodName := ⟨"PegBands", "triangles", "(III)I"⟩
def tb_X1_triangles : List (Nat × Instr × Nat) := [(0, .aload_n 0, 1), (1, .iload_n 1, 1), (2, .iload_n 2, 1), (3, .invokevirtual 404, 3), (6, .ifCond .eq 8, 3), (9, .iload_n 3, 1), (10, .iconst (-1), 1), (11, .if_icmp .ge 5, 3), (14, .iconst (-1), 1), (15, .ireturn, 1), (16, .aload_n 0, 1), (17, .iload_n 1, 1), (18, .iload_n 2, 1), (19, .iload_n 3, 1), (20, .invokevirtual 407, 3), (23, .istore 4, 2), (25, .iload_n 3, 1), (26, .iconst (-1), 1), (27, .if_icmp .ne 8, 3), (30, .iload 4, 2), (32, .goto 7, 3), (35, .aload_n 0, 1), (36, .getfield 389, 3), (39, .ireturn, 1)]
theorem tk_X1_triangles : ∀ q ∈ tb_X1_triangles, decode cX1_triangles q.1 = .ok q.2 := by decide +kernel
theorem dc_X1_triangles (k : Nat) {pc n : Nat} {i : Instr} (h : tb_X1_triangles[k]? = some (pc, i, n)) : decode cX1_triangles pc = .ok (i, n) := tk_X1_triangles (pc, i, n) (List.mem_of_getElem? h)
abbrev mX1_triangles : e_M := (yX1_triangles, cX1_triangles, 5, some (.int), [])
theorem ok_X1_triangles : e_mok mX1_triangles 3 := ⟨q1101, q108, by decide +kernel, fun sig h => by cases h; rfl⟩
def f_X1_triangles (F : Nat) (h : e_H) (a0 : Nat) (a1 : Int32) (a2 : Int32) (a3 : Int32) : Option (Int32 × e_H) :=
  Option.bind (e_is h a0 0) (fun _ =>
  Option.bind (f_X1_canSeek h a0 a1 a2) (fun x3 =>
  if x3 = 0 then
    some ((-1), h)
  else
    if (-1) ≤ a3 then
      e_b2 (f_X1_seek F h a0 a1 a2 a3) (fun x20 h20 =>
      if a3 = (-1) then
        some (x20, h20)
      else
        Option.bind (e_fI h20 a0 0 23) (fun x36 =>
        some (x36, h20)))
    else
      some ((-1), h)))
set_option maxHeartbeats 4000000 in
set_option maxRecDepth 100000 in
theorem ct_X1_triangles {l : Launch} {D : e_D} {B : Heap} {F : Nat} {d : Nat} {h : e_H} {a0 : Nat} {a1 : Int32} {a2 : Int32} {a3 : Int32} {v : Int32} {h1 : e_H} (hd : 280 ≤ d) (e : f_X1_triangles F h a0 a1 a2 a3 = some (v, h1)) : e_Run l D B d mX1_triangles [.ref a0, .int a1, .int a2, .int a3] h (.ok (some (.int v)), h1) := by
  refine e_start [some (.ref a0), some (.int a1), some (.int a2), some (.int a3), none] (by decide) rfl rfl rfl (Nat.le_of_ble_eq_true rfl) (fun K hl0 hD0 hB0 hM hd0 hr => ?_)
  subst hl0 hD0 hB0 hd0
  have ho : (k_M K).1.cls = "PegBands" := by rw [hM]; rfl
  have hT : (k_M K).2.2.2.1 = some (.int) := by rw [hM]
  refine (show Sx K cX1_triangles 0 [some (.ref a0), some (.int a1), some (.int a2), some (.int a3), none] [] h (f_X1_triangles F h a0 a1 a2 a3) (fun w => w = (v, h1)) from ?_) _ e rfl
  clear e
  unfold f_X1_triangles
  refine S_aload_n (dc_X1_triangles 0 rfl) rfl ?_
  refine S_iload_n (dc_X1_triangles 1 rfl) rfl ?_
  refine S_iload_n (dc_X1_triangles 2 rfl) rfl ?_
  refine Sx.ask (fun _ i3 => ?_)
  refine S_roI (d := k_d K - 1) (e_callV (b := a0) (As := [.int a1, .int a2]) (rest := []) ok_X1_canSeek rfl (Nat.le_of_ble_eq_true rfl) (dc_X1_triangles 3 rfl) ho q1102 q1104 (show e_cl[0]? = some (RX1, TX1, 37) from rfl) (e_sel.of qs17) (e_is_of i3) rfl (Nat.le_of_ble_eq_true rfl)) (by omega) (fun _ e => ct_X1_canSeek (by omega) e) (fun x3 e3 => ?_)
  refine S_if_eq 14 (dc_X1_triangles 4 rfl) rfl (fun c6 => ?_) (fun c6 => ?_)
  · refine S_iconst_ (-1) (dc_X1_triangles 8 rfl) rfl ?_
    exact S_iret (dc_X1_triangles 9 rfl) hT rfl (e_rqI hr)
  · refine S_iload_n (dc_X1_triangles 5 rfl) rfl ?_
    refine S_iconst_ (-1) (dc_X1_triangles 6 rfl) rfl ?_
    refine S_icmp_ge 16 (dc_X1_triangles 7 rfl) rfl (fun c11 => ?_) (fun c11 => ?_)
    · refine S_aload_n (dc_X1_triangles 10 rfl) rfl ?_
      refine S_iload_n (dc_X1_triangles 11 rfl) rfl ?_
      refine S_iload_n (dc_X1_triangles 12 rfl) rfl ?_
      refine S_iload_n (dc_X1_triangles 13 rfl) rfl ?_
      refine S_rwI (d := k_d K - 1) (e_callV (b := a0) (As := [.int a1, .int a2, .int a3]) (rest := []) ok_X1_seek rfl (Nat.le_of_ble_eq_true rfl) (dc_X1_triangles 14 rfl) ho q1106 q1108 (show e_cl[0]? = some (RX1, TX1, 37) from rfl) (e_sel.of qs18) (e_is_of i3) rfl (Nat.le_of_ble_eq_true rfl)) (by omega) (fun _ _ e => ct_X1_seek (by omega) e) (fun x20 h20 e20 => ?_)
      refine S_istore (L' := [some (.ref a0), some (.int a1), some (.int a2), some (.int a3), some (.int x20)]) (dc_X1_triangles 15 rfl) rfl ?_
      refine S_iload_n (dc_X1_triangles 16 rfl) rfl ?_
      refine S_iconst_ (-1) (dc_X1_triangles 17 rfl) rfl ?_
      refine S_icmp_ne 35 (dc_X1_triangles 18 rfl) rfl (fun c27 => ?_) (fun c27 => ?_)
      · refine S_aload_n (dc_X1_triangles 21 rfl) rfl ?_
        refine S_getI (dc_X1_triangles 22 rfl) ho fl_X1_389_0_23 (fun _ _ => rfl) (fun x36 e36 => ?_)
        exact S_iret (dc_X1_triangles 23 rfl) hT rfl (e_rqI hr)
      · refine S_iload (dc_X1_triangles 19 rfl) rfl ?_
        refine S_goto 39 (dc_X1_triangles 20 rfl) rfl ?_
        exact S_iret (dc_X1_triangles 23 rfl) hT rfl (e_rqI hr)
    · refine S_iconst_ (-1) (dc_X1_triangles 8 rfl) rfl ?_
      exact S_iret (dc_X1_triangles 9 rfl) hT rfl (e_rqI hr)
abbrev cX1_smallest : ByteArray := prog_1_method_62_code
def yX1_smallest : MethodName := ⟨"PegBands", "smallest", "(II)I"⟩
def tb_X1_smallest : List (Nat × Instr × Nat) := [(0, .aload_n 0, 1), (1, .iload_n 1, 1), (2, .iload_n 2, 1), (3, .invokevirtual 404, 3), (6, .ifCond .ne 5, 3), (9, .iconst (-1), 1), (10, .ireturn, 1), (11, .aload_n 0, 1), (12, .iload_n 1, 1), (13, .iload_n 2, 1), (14, .iconst (-1), 1), (15, .invokevirtual 407, 3), (18, .pop, 1), (19, .aload_n 0, 1), (20, .getfield 386, 3), (23, .ireturn, 1)]
theorem tk_X1_smallest : ∀ q ∈ tb_X1_smallest, decode cX1_smallest q.1 = .ok q.2 := by decide +kernel
theorem dc_X1_smallest (k : Nat) {pc n : Nat} {i : Instr} (h : tb_X1_smallest[k]? = some (pc, i, n)) : decode cX1_smallest pc = .ok (i, n) := tk_X1_smallest (pc, i, n) (List.mem_of_getElem? h)
abbrev mX1_smallest : e_M := (yX1_smallest, cX1_smallest, 3, some (.int), [])
theorem ok_X1_smallest : e_mok mX1_smallest 2 := ⟨q1140, q108, by decide +kernel, fun sig h => by cases h; rfl⟩
def f_X1_smallest (F : Nat) (h : e_H) (a0 : Nat) (a1 : Int32) (a2 : Int32) : Option (Int32 × e_H) :=
  Option.bind (e_is h a0 0) (fun _ =>
  Option.bind (f_X1_canSeek h a0 a1 a2) (fun x3 =>
  if x3 = 0 then
    some ((-1), h)
  else
    e_b2 (f_X1_seek F h a0 a1 a2 (-1)) (fun x15 h15 =>
    Option.bind (e_fI h15 a0 0 24) (fun x20 =>
    some (x20, h15)))))
set_option maxHeartbeats 4000000 in
set_option maxRecDepth 100000 in
theorem ct_X1_smallest {l : Launch} {D : e_D} {B : Heap} {F : Nat} {d : Nat} {h : e_H} {a0 : Nat} {a1 : Int32} {a2 : Int32} {v : Int32} {h1 : e_H} (hd : 280 ≤ d) (e : f_X1_smallest F h a0 a1 a2 = some (v, h1)) : e_Run l D B d mX1_smallest [.ref a0, .int a1, .int a2] h (.ok (some (.int v)), h1) := by
  refine e_start [some (.ref a0), some (.int a1), some (.int a2)] (by decide) rfl rfl rfl (Nat.le_of_ble_eq_true rfl) (fun K hl0 hD0 hB0 hM hd0 hr => ?_)
  subst hl0 hD0 hB0 hd0
  have ho : (k_M K).1.cls = "PegBands" := by rw [hM]; rfl
  have hT : (k_M K).2.2.2.1 = some (.int) := by rw [hM]
  refine (show Sx K cX1_smallest 0 [some (.ref a0), some (.int a1), some (.int a2)] [] h (f_X1_smallest F h a0 a1 a2) (fun w => w = (v, h1)) from ?_) _ e rfl
  clear e
  unfold f_X1_smallest
  refine S_aload_n (dc_X1_smallest 0 rfl) rfl ?_
  refine S_iload_n (dc_X1_smallest 1 rfl) rfl ?_
  refine S_iload_n (dc_X1_smallest 2 rfl) rfl ?_
  refine Sx.ask (fun _ i3 => ?_)
  refine S_roI (d := k_d K - 1) (e_callV (b := a0) (As := [.int a1, .int a2]) (rest := []) ok_X1_canSeek rfl (Nat.le_of_ble_eq_true rfl) (dc_X1_smallest 3 rfl) ho q1102 q1104 (show e_cl[0]? = some (RX1, TX1, 37) from rfl) (e_sel.of qs17) (e_is_of i3) rfl (Nat.le_of_ble_eq_true rfl)) (by omega) (fun _ e => ct_X1_canSeek (by omega) e) (fun x3 e3 => ?_)
  refine S_if_ne 11 (dc_X1_smallest 4 rfl) rfl (fun c6 => ?_) (fun c6 => ?_)
  · refine S_aload_n (dc_X1_smallest 7 rfl) rfl ?_
    refine S_iload_n (dc_X1_smallest 8 rfl) rfl ?_
    refine S_iload_n (dc_X1_smallest 9 rfl) rfl ?_
    refine S_iconst_ (-1) (dc_X1_smallest 10 rfl) rfl ?_
    refine S_rwI (d := k_d K - 1) (e_callV (b := a0) (As := [.int a1, .int a2, .int (-1)]) (rest := []) ok_X1_seek rfl (Nat.le_of_ble_eq_true rfl) (dc_X1_smallest 11 rfl) ho q1106 q1108 (show e_cl[0]? = some (RX1, TX1, 37) from rfl) (e_sel.of qs18) (e_is_of i3) rfl (Nat.le_of_ble_eq_true rfl)) (by omega) (fun _ _ e => ct_X1_seek (by omega) e) (fun x15 h15 e15 => ?_)
    refine S_pop (dc_X1_smallest 12 rfl) rfl ?_
    refine S_aload_n (dc_X1_smallest 13 rfl) rfl ?_
    refine S_getI (dc_X1_smallest 14 rfl) ho fl_X1_386_0_24 (fun _ _ => rfl) (fun x20 e20 => ?_)
    exact S_iret (dc_X1_smallest 15 rfl) hT rfl (e_rqI hr)
  · refine S_iconst_ (-1) (dc_X1_smallest 5 rfl) rfl ?_
    exact S_iret (dc_X1_smallest 6 rfl) hT rfl (e_rqI hr)
abbrev cX1_along : ByteArray := prog_1_method_63_code
def yX1_along : MethodName := ⟨"PegBands", "along", "(LPegBands$Band;)V"⟩
def tb_X1_along : List (Nat × Instr × Nat) := [(0, .aload_n 0, 1), (1, .iconst 0, 1), (2, .putfield 410, 3), (5, .iconst 0, 1), (6, .istore_n 2, 1), (7, .iload_n 2, 1), (8, .aload_n 1, 1), (9, .getfield 251, 3), (12, .if_icmp .ge 127, 3), (15, .aload_n 1, 1), (16, .getfield 273, 3), (19, .aload_n 1, 1), (20, .iload_n 2, 1), (21, .invokevirtual 376, 3), (24, .iaload, 1), (25, .aload_n 1, 1), (26, .getfield 273, 3), (29, .iload_n 2, 1), (30, .iaload, 1), (31, .isub, 1), (32, .istore_n 3, 1), (33, .aload_n 1, 1), (34, .getfield 270, 3), (37, .aload_n 1, 1), (38, .iload_n 2, 1), (39, .invokevirtual 376, 3), (42, .iaload, 1), (43, .aload_n 1, 1), (44, .getfield 270, 3), (47, .iload_n 2, 1), (48, .iaload, 1), (49, .isub, 1), (50, .istore 4, 2), (52, .iload_n 3, 1), (53, .iload 4, 2), (55, .invokestatic 173, 3), (58, .istore 5, 2), (60, .iconst 0, 1), (61, .istore 6, 2), (63, .iload 6, 2), (65, .iload 5, 2), (67, .if_icmp .ge 66, 3), (70, .aload_n 0, 1), (71, .getfield 121, 3), (74, .aload_n 0, 1), (75, .getfield 410, 3), (78, .aload_n 1, 1), (79, .getfield 273, 3), (82, .iload_n 2, 1), (83, .iaload, 1), (84, .iload_n 3, 1), (85, .iload 5, 2), (87, .idiv, 1), (88, .iload 6, 2), (90, .imul, 1), (91, .iadd, 1), (92, .iastore, 1), (93, .aload_n 0, 1), (94, .getfield 124, 3), (97, .aload_n 0, 1), (98, .getfield 410, 3), (101, .aload_n 1, 1), (102, .getfield 270, 3), (105, .iload_n 2, 1), (106, .iaload, 1), (107, .iload 4, 2), (109, .iload 5, 2), (111, .idiv, 1), (112, .iload 6, 2), (114, .imul, 1), (115, .iadd, 1), (116, .iastore, 1), (117, .aload_n 0, 1), (118, .dup, 1), (119, .getfield 410, 3), (122, .iconst 1, 1), (123, .iadd, 1), (124, .putfield 410, 3), (127, .iinc 6 1, 3), (130, .goto (-67), 3), (133, .iinc 2 1, 3), (136, .goto (-129), 3), (139, .return_, 1)]
theorem tk_X1_along : ∀ q ∈ tb_X1_along, decode cX1_along q.1 = .ok q.2 := by decide +kernel
theorem dc_X1_along (k : Nat) {pc n : Nat} {i : Instr} (h : tb_X1_along[k]? = some (pc, i, n)) : decode cX1_along pc = .ok (i, n) := tk_X1_along (pc, i, n) (List.mem_of_getElem? h)
abbrev mX1_along : e_M := (yX1_along, cX1_along, 7, none, [])
theorem ok_X1_along : e_mok mX1_along 1 := ⟨q1148, q108, by decide +kernel, fun sig h => by cases h; rfl⟩
theorem fl_X1_410_0_27 : e_FL "PegBands" 410 0 27 := ⟨_, rfl, by decide, Or.inl q485⟩
def lp_X1_along_63 (F : Nat) (a0 : Nat) (a1 : Nat) (x2_7 : Int32) (x32 : Int32) (x50 : Int32) (x55 : Int32) : Nat → Int32 → e_H → Option (e_H)
  | 0, _, _ => none
  | n + 1, x6_63, h_63 =>
    if x55 ≤ x6_63 then
      some h_63
    else
      Option.bind (e_fA h_63 a0 0 25) (fun x71 =>
      Option.bind (e_fI h_63 a0 0 27) (fun x75 =>
      Option.bind (e_fA h_63 a1 6 0) (fun x79 =>
      Option.bind (e_aI h_63 x79 0 x2_7) (fun x83 =>
      if x55 = 0 then none else
      Option.bind (e_wI h_63 x71 0 x75 (x83 + ((x32 / x55) * x6_63))) (fun h92 =>
      Option.bind (e_fA h92 a0 0 26) (fun x94 =>
      Option.bind (e_fI h92 a0 0 27) (fun x98 =>
      Option.bind (e_fA h92 a1 6 1) (fun x102 =>
      Option.bind (e_aI h92 x102 0 x2_7) (fun x106 =>
      if x55 = 0 then none else
      Option.bind (e_wI h92 x94 0 x98 (x106 + ((x50 / x55) * x6_63))) (fun h116 =>
      Option.bind (e_fI h116 a0 0 27) (fun x119 =>
      Option.bind (e_gI h116 a0 0 27 (x119 + 1)) (fun h124 =>
      Option.bind (some (x6_63 + 1)) (fun x127 =>
      lp_X1_along_63 F a0 a1 x2_7 x32 x50 x55 n x127 h124)))))))))))))
def lp_X1_along_7 (F : Nat) (a0 : Nat) (a1 : Nat) : Nat → Int32 → e_H → Option (e_H)
  | 0, _, _ => none
  | n + 1, x2_7, h_7 =>
    Option.bind (e_fI h_7 a1 6 2) (fun x9 =>
    if x9 ≤ x2_7 then
      some h_7
    else
      Option.bind (e_fA h_7 a1 6 0) (fun x16 =>
      Option.bind (f_X8_next h_7 a1 x2_7) (fun x21 =>
      Option.bind (e_aI h_7 x16 0 x21) (fun x24 =>
      Option.bind (e_fA h_7 a1 6 0) (fun x26 =>
      Option.bind (e_aI h_7 x26 0 x2_7) (fun x30 =>
      Option.bind (some (x24 - x30)) (fun x32 =>
      Option.bind (e_fA h_7 a1 6 1) (fun x34 =>
      Option.bind (f_X8_next h_7 a1 x2_7) (fun x39 =>
      Option.bind (e_aI h_7 x34 0 x39) (fun x42 =>
      Option.bind (e_fA h_7 a1 6 1) (fun x44 =>
      Option.bind (e_aI h_7 x44 0 x2_7) (fun x48 =>
      Option.bind (some (x42 - x48)) (fun x50 =>
      Option.bind (f_X1_common F 32 x32 x50) (fun x55 =>
      Option.bind (
          lp_X1_along_63 F a0 a1 x2_7 x32 x50 x55 F 0 h_7
        : Option (e_H)) (fun h133_2 =>
      Option.bind (some (x2_7 + 1)) (fun x133 =>
      lp_X1_along_7 F a0 a1 n x133 h133_2))))))))))))))))
def f_X1_along (F : Nat) (h : e_H) (a0 : Nat) (a1 : Nat) : Option e_H :=
  Option.bind (e_gI h a0 0 27 0) (fun h2 =>
  Option.bind (
      lp_X1_along_7 F a0 a1 F 0 h2
    : Option (e_H)) (fun h139_1 =>
  some h139_1))
set_option maxHeartbeats 4000000 in
set_option maxRecDepth 100000 in
theorem ct_X1_along {l : Launch} {D : e_D} {B : Heap} {F : Nat} {d : Nat} {h : e_H} {a0 : Nat} {a1 : Nat} {h1 : e_H} (hd : 277 ≤ d) (e : f_X1_along F h a0 a1 = some h1) : e_Run l D B d mX1_along [.ref a0, .ref a1] h (.ok none, h1) := by
  refine e_start [some (.ref a0), some (.ref a1), none, none, none, none, none] (by decide) rfl rfl rfl (Nat.le_of_ble_eq_true rfl) (fun K hl0 hD0 hB0 hM hd0 hr => ?_)
  subst hl0 hD0 hB0 hd0
  have ho : (k_M K).1.cls = "PegBands" := by rw [hM]; rfl
  have hT : (k_M K).2.2.2.1 = none := by rw [hM]
  refine (show Sx K cX1_along 0 [some (.ref a0), some (.ref a1), none, none, none, none, none] [] h (f_X1_along F h a0 a1) (fun w => w = h1) from ?_) _ e rfl
  clear e
  unfold f_X1_along
  refine S_aload_n (dc_X1_along 0 rfl) rfl ?_
  refine S_iconst_ 0 (dc_X1_along 1 rfl) rfl ?_
  refine S_putI (dc_X1_along 2 rfl) ho fl_X1_410_0_27 (fun _ _ => rfl) (Or.inl rfl) rfl rfl (fun h2 e2 => ?_)
  refine S_iconst_ 0 (dc_X1_along 3 rfl) rfl ?_
  refine S_istore_n (L' := [some (.ref a0), some (.ref a1), some (.int 0), none, none, none, none]) (dc_X1_along 4 rfl) rfl ?_
  refine Sx.regK1 (pc2 := 139) (L2 := fun (h139_1 : e_H) => [none, none, none, none, none, none, none]) (st2 := fun (h139_1 : e_H) => []) (h2 := fun (h139_1 : e_H) => h139_1) ?_ (fun Q1 hK1 => ?_)
  · intro h139_1
    show Sx K cX1_along 139 [none, none, none, none, none, none, none] [] h139_1 _ _
    exact S_vret (dc_X1_along 82 rfl) hT (fun q => by cases q; exact hr)
  · have hK1 : ∀ (h139_1 : e_H), Sx K cX1_along 139 [none, none, none, none, none, none, none] [] h139_1 (some h139_1) Q1 := hK1
    have ih1 : ∀ (n : Nat) (x2_7 : Int32) (h_7 : e_H), Sx K cX1_along 7 [some (.ref a0), some (.ref a1), some (.int x2_7), none, none, none, none] [] h_7 (lp_X1_along_7 F a0 a1 n x2_7 h_7) Q1 := by
      intro n
      induction n with
      | zero => intro x2_7 h_7; exact Sx.none
      | succ n ih1 =>
        intro x2_7 h_7
        rw [lp_X1_along_7.eq_2]
        refine S_iload_n (dc_X1_along 5 rfl) rfl ?_
        refine S_aload_n (dc_X1_along 6 rfl) rfl ?_
        refine S_getI (dc_X1_along 7 rfl) ho fl_X1_251_6_2 (fun _ _ => rfl) (fun x9 e9 => ?_)
        refine S_icmp_ge 139 (dc_X1_along 8 rfl) rfl (fun c12 => ?_) (fun c12 => ?_)
        · refine Sx.cut [false, false, false, true, true, true, true] ?_
          exact hK1 h_7
        · refine S_aload_n (dc_X1_along 9 rfl) rfl ?_
          refine S_getA (dc_X1_along 10 rfl) ho fl_X1_273_6_0 (fun _ _ => rfl) (fun x16 e16 => ?_)
          refine S_aload_n (dc_X1_along 11 rfl) rfl ?_
          refine S_iload_n (dc_X1_along 12 rfl) rfl ?_
          refine S_roI (d := k_d K - 1) (e_callV (b := a1) (As := [.int x2_7]) (rest := [.ref x16]) ok_X8_next rfl (Nat.le_of_ble_eq_true rfl) (dc_X1_along 13 rfl) ho q1092 q799 (show e_cl[6]? = some (RX8, TX8, 4) from rfl) (e_sel.of q800) (e_fI_of e9).1 rfl (Nat.le_of_ble_eq_true rfl)) (by omega) (fun _ e => ct_X8_next (by omega) e) (fun x21 e21 => ?_)
          refine S_iald (dc_X1_along 14 rfl) (fun x24 e24 => ?_)
          refine S_aload_n (dc_X1_along 15 rfl) rfl ?_
          refine S_getA (dc_X1_along 16 rfl) ho fl_X1_273_6_0 (fun _ _ => rfl) (fun x26 e26 => ?_)
          refine S_iload_n (dc_X1_along 17 rfl) rfl ?_
          refine S_iald (dc_X1_along 18 rfl) (fun x30 e30 => ?_)
          refine S_isub (dc_X1_along 19 rfl) ?_
          refine Sx.nameI (fun x32 n32 => ?_)
          refine S_istore_n (L' := [some (.ref a0), some (.ref a1), some (.int x2_7), some (.int x32), none, none, none]) (dc_X1_along 20 rfl) rfl ?_
          refine S_aload_n (dc_X1_along 21 rfl) rfl ?_
          refine S_getA (dc_X1_along 22 rfl) ho fl_X1_270_6_1 (fun _ _ => rfl) (fun x34 e34 => ?_)
          refine S_aload_n (dc_X1_along 23 rfl) rfl ?_
          refine S_iload_n (dc_X1_along 24 rfl) rfl ?_
          refine S_roI (d := k_d K - 1) (e_callV (b := a1) (As := [.int x2_7]) (rest := [.ref x34]) ok_X8_next rfl (Nat.le_of_ble_eq_true rfl) (dc_X1_along 25 rfl) ho q1092 q799 (show e_cl[6]? = some (RX8, TX8, 4) from rfl) (e_sel.of q800) (e_fI_of e9).1 rfl (Nat.le_of_ble_eq_true rfl)) (by omega) (fun _ e => ct_X8_next (by omega) e) (fun x39 e39 => ?_)
          refine S_iald (dc_X1_along 26 rfl) (fun x42 e42 => ?_)
          refine S_aload_n (dc_X1_along 27 rfl) rfl ?_
          refine S_getA (dc_X1_along 28 rfl) ho fl_X1_270_6_1 (fun _ _ => rfl) (fun x44 e44 => ?_)
          refine S_iload_n (dc_X1_along 29 rfl) rfl ?_
          refine S_iald (dc_X1_along 30 rfl) (fun x48 e48 => ?_)
          refine S_isub (dc_X1_along 31 rfl) ?_
          refine Sx.nameI (fun x50 n50 => ?_)
          refine S_istore (L' := [some (.ref a0), some (.ref a1), some (.int x2_7), some (.int x32), some (.int x50), none, none]) (dc_X1_along 32 rfl) rfl ?_
          refine S_iload_n (dc_X1_along 33 rfl) rfl ?_
          refine S_iload (dc_X1_along 34 rfl) rfl ?_
          refine S_roI (d := k_d K - 1) (e_callS (As := [.int x32, .int x50]) (rest := []) ok_X1_common rfl (Nat.le_of_ble_eq_true rfl) (dc_X1_along 35 rfl) ho q1129 q1127 rfl (Nat.le_of_ble_eq_true rfl)) (by omega) (fun _ e => ct_X1_common 32 (by omega) e) (fun x55 e55 => ?_)
          refine S_istore (L' := [some (.ref a0), some (.ref a1), some (.int x2_7), some (.int x32), some (.int x50), some (.int x55), none]) (dc_X1_along 36 rfl) rfl ?_
          refine S_iconst_ 0 (dc_X1_along 37 rfl) rfl ?_
          refine S_istore (L' := [some (.ref a0), some (.ref a1), some (.int x2_7), some (.int x32), some (.int x50), some (.int x55), some (.int 0)]) (dc_X1_along 38 rfl) rfl ?_
          refine Sx.regK1 (pc2 := 133) (L2 := fun (h133_2 : e_H) => [some (.ref a0), some (.ref a1), some (.int x2_7), none, none, none, none]) (st2 := fun (h133_2 : e_H) => []) (h2 := fun (h133_2 : e_H) => h133_2) ?_ (fun Q2 hK2 => ?_)
          · intro h133_2
            show Sx K cX1_along 133 [some (.ref a0), some (.ref a1), some (.int x2_7), none, none, none, none] [] h133_2 _ _
            refine S_iincN 1 (L' := fun x133 => [some (.ref a0), some (.ref a1), some (.int x133), none, none, none, none]) (dc_X1_along 80 rfl) rfl rfl (fun _ => rfl) (fun x133 n133 => ?_)
            refine S_goto 7 (dc_X1_along 81 rfl) rfl ?_
            exact ih1 x133 h133_2
          · have hK2 : ∀ (h133_2 : e_H), Sx K cX1_along 133 [some (.ref a0), some (.ref a1), some (.int x2_7), none, none, none, none] [] h133_2 (some h133_2) Q2 := hK2
            have ih2 : ∀ (n : Nat) (x6_63 : Int32) (h_63 : e_H), Sx K cX1_along 63 [some (.ref a0), some (.ref a1), some (.int x2_7), some (.int x32), some (.int x50), some (.int x55), some (.int x6_63)] [] h_63 (lp_X1_along_63 F a0 a1 x2_7 x32 x50 x55 n x6_63 h_63) Q2 := by
              intro n
              induction n with
              | zero => intro x6_63 h_63; exact Sx.none
              | succ n ih2 =>
                intro x6_63 h_63
                rw [lp_X1_along_63.eq_2]
                refine S_iload (dc_X1_along 39 rfl) rfl ?_
                refine S_iload (dc_X1_along 40 rfl) rfl ?_
                refine S_icmp_ge 133 (dc_X1_along 41 rfl) rfl (fun c67 => ?_) (fun c67 => ?_)
                · refine Sx.cut [true, true, true, false, false, false, false] ?_
                  exact hK2 h_63
                · refine S_aload_n (dc_X1_along 42 rfl) rfl ?_
                  refine S_getA (dc_X1_along 43 rfl) ho fl_X1_121_0_25 (fun _ _ => rfl) (fun x71 e71 => ?_)
                  refine S_aload_n (dc_X1_along 44 rfl) rfl ?_
                  refine S_getI (dc_X1_along 45 rfl) ho fl_X1_410_0_27 (fun _ _ => rfl) (fun x75 e75 => ?_)
                  refine S_aload_n (dc_X1_along 46 rfl) rfl ?_
                  refine S_getA (dc_X1_along 47 rfl) ho fl_X1_273_6_0 (fun _ _ => rfl) (fun x79 e79 => ?_)
                  refine S_iload_n (dc_X1_along 48 rfl) rfl ?_
                  refine S_iald (dc_X1_along 49 rfl) (fun x83 e83 => ?_)
                  refine S_iload_n (dc_X1_along 50 rfl) rfl ?_
                  refine S_iload (dc_X1_along 51 rfl) rfl ?_
                  refine Sx.ncond (fun c87 => ?_)
                  refine S_idiv (dc_X1_along 52 rfl) c87 ?_
                  refine S_iload (dc_X1_along 53 rfl) rfl ?_
                  refine S_imul (dc_X1_along 54 rfl) ?_
                  refine S_iadd (dc_X1_along 55 rfl) ?_
                  refine S_iast (dc_X1_along 56 rfl) (fun h92 e92 => ?_)
                  refine S_aload_n (dc_X1_along 57 rfl) rfl ?_
                  refine S_getA (dc_X1_along 58 rfl) ho fl_X1_124_0_26 (fun _ _ => rfl) (fun x94 e94 => ?_)
                  refine S_aload_n (dc_X1_along 59 rfl) rfl ?_
                  refine S_getI (dc_X1_along 60 rfl) ho fl_X1_410_0_27 (fun _ _ => rfl) (fun x98 e98 => ?_)
                  refine S_aload_n (dc_X1_along 61 rfl) rfl ?_
                  refine S_getA (dc_X1_along 62 rfl) ho fl_X1_270_6_1 (fun _ _ => rfl) (fun x102 e102 => ?_)
                  refine S_iload_n (dc_X1_along 63 rfl) rfl ?_
                  refine S_iald (dc_X1_along 64 rfl) (fun x106 e106 => ?_)
                  refine S_iload (dc_X1_along 65 rfl) rfl ?_
                  refine S_iload (dc_X1_along 66 rfl) rfl ?_
                  refine Sx.ncond (fun c111 => ?_)
                  refine S_idiv (dc_X1_along 67 rfl) c111 ?_
                  refine S_iload (dc_X1_along 68 rfl) rfl ?_
                  refine S_imul (dc_X1_along 69 rfl) ?_
                  refine S_iadd (dc_X1_along 70 rfl) ?_
                  refine S_iast (dc_X1_along 71 rfl) (fun h116 e116 => ?_)
                  refine S_aload_n (dc_X1_along 72 rfl) rfl ?_
                  refine S_dup (dc_X1_along 73 rfl) rfl ?_
                  refine S_getI (dc_X1_along 74 rfl) ho fl_X1_410_0_27 (fun _ _ => rfl) (fun x119 e119 => ?_)
                  refine S_iconst_ 1 (dc_X1_along 75 rfl) rfl ?_
                  refine S_iadd (dc_X1_along 76 rfl) ?_
                  refine S_putI (dc_X1_along 77 rfl) ho fl_X1_410_0_27 (fun _ _ => rfl) (Or.inl rfl) rfl rfl (fun h124 e124 => ?_)
                  refine S_iincN 1 (L' := fun x127 => [some (.ref a0), some (.ref a1), some (.int x2_7), some (.int x32), some (.int x50), some (.int x55), some (.int x127)]) (dc_X1_along 78 rfl) rfl rfl (fun _ => rfl) (fun x127 n127 => ?_)
                  refine S_goto 63 (dc_X1_along 79 rfl) rfl ?_
                  exact ih2 x127 h124
            exact ih2 F 0 h_7
    exact ih1 F 0 h2
abbrev cX1_part : ByteArray := prog_1_method_65_code
def yX1_part : MethodName := ⟨"PegBands", "part", "(II)I"⟩
def tb_X1_part : List (Nat × Instr × Nat) := [(0, .iconst 0, 1), (1, .istore_n 3, 1), (2, .iload_n 1, 1), (3, .istore 4, 2), (5, .iload 4, 2), (7, .iload_n 2, 1), (8, .if_icmp .gt 59, 3), (11, .iload 4, 2), (13, .iload_n 2, 1), (14, .if_icmp .ne 7, 3), (17, .iload_n 1, 1), (18, .goto 7, 3), (21, .iload 4, 2), (23, .iconst 1, 1), (24, .iadd, 1), (25, .istore 5, 2), (27, .iload_n 3, 1), (28, .aload_n 0, 1), (29, .getfield 121, 3), (32, .iload 4, 2), (34, .iaload, 1), (35, .aload_n 0, 1), (36, .getfield 124, 3), (39, .iload 5, 2), (41, .iaload, 1), (42, .imul, 1), (43, .aload_n 0, 1), (44, .getfield 121, 3), (47, .iload 5, 2), (49, .iaload, 1), (50, .aload_n 0, 1), (51, .getfield 124, 3), (54, .iload 4, 2), (56, .iaload, 1), (57, .imul, 1), (58, .isub, 1), (59, .iadd, 1), (60, .istore_n 3, 1), (61, .iinc 4 1, 3), (64, .goto (-59), 3), (67, .iload_n 3, 1), (68, .ireturn, 1)]
theorem tk_X1_part : ∀ q ∈ tb_X1_part, decode cX1_part q.1 = .ok q.2 := by decide +kernel
theorem dc_X1_part (k : Nat) {pc n : Nat} {i : Instr} (h : tb_X1_part[k]? = some (pc, i, n)) : decode cX1_part pc = .ok (i, n) := tk_X1_part (pc, i, n) (List.mem_of_getElem? h)
abbrev mX1_part : e_M := (yX1_part, cX1_part, 6, some (.int), [])
theorem ok_X1_part : e_mok mX1_part 2 := ⟨q1152, q108, by decide +kernel, fun sig h => by cases h; rfl⟩
def lp_X1_part_5 (F : Nat) (h : e_H) (a0 : Nat) (a1 : Int32) (a2 : Int32) : Nat → Int32 → Int32 → Option (Int32)
  | 0, _, _ => none
  | n + 1, x3_5, x4_5 =>
    if a2 < x4_5 then
      some x3_5
    else
      Option.bind (
          if x4_5 = a2 then
            some a1
          else
            some (x4_5 + 1)
        : Option (Int32)) (fun s25_2 =>
      Option.bind (e_fA h a0 0 25) (fun x29 =>
      Option.bind (e_aI h x29 0 x4_5) (fun x34 =>
      Option.bind (e_fA h a0 0 26) (fun x36 =>
      Option.bind (e_aI h x36 0 s25_2) (fun x41 =>
      Option.bind (e_fA h a0 0 25) (fun x44 =>
      Option.bind (e_aI h x44 0 s25_2) (fun x49 =>
      Option.bind (e_fA h a0 0 26) (fun x51 =>
      Option.bind (e_aI h x51 0 x4_5) (fun x56 =>
      Option.bind (some (x3_5 + ((x34 * x41) - (x49 * x56)))) (fun x60 =>
      Option.bind (some (x4_5 + 1)) (fun x61 =>
      lp_X1_part_5 F h a0 a1 a2 n x60 x61)))))))))))
def f_X1_part (F : Nat) (h : e_H) (a0 : Nat) (a1 : Int32) (a2 : Int32) : Option Int32 :=
  Option.bind (
      lp_X1_part_5 F h a0 a1 a2 F 0 a1
    : Option (Int32)) (fun x3_67_1 =>
  some x3_67_1)
set_option maxHeartbeats 4000000 in
set_option maxRecDepth 100000 in
theorem ct_X1_part {l : Launch} {D : e_D} {B : Heap} {F : Nat} {d : Nat} {h : e_H} {a0 : Nat} {a1 : Int32} {a2 : Int32} {v : Int32} (hd : 1 ≤ d) (e : f_X1_part F h a0 a1 a2 = some v) : e_Run l D B d mX1_part [.ref a0, .int a1, .int a2] h (.ok (some (.int v)), h) := by
  refine e_start [some (.ref a0), some (.int a1), some (.int a2), none, none, none] (by decide) rfl rfl rfl (Nat.le_of_ble_eq_true rfl) (fun K hl0 hD0 hB0 hM hd0 hr => ?_)
  subst hl0 hD0 hB0 hd0
  have ho : (k_M K).1.cls = "PegBands" := by rw [hM]; rfl
  have hT : (k_M K).2.2.2.1 = some (.int) := by rw [hM]
  refine (show Sx K cX1_part 0 [some (.ref a0), some (.int a1), some (.int a2), none, none, none] [] h (f_X1_part F h a0 a1 a2) (fun w => w = v) from ?_) _ e rfl
  clear e
  unfold f_X1_part
  refine S_iconst_ 0 (dc_X1_part 0 rfl) rfl ?_
  refine S_istore_n (L' := [some (.ref a0), some (.int a1), some (.int a2), some (.int 0), none, none]) (dc_X1_part 1 rfl) rfl ?_
  refine S_iload_n (dc_X1_part 2 rfl) rfl ?_
  refine S_istore (L' := [some (.ref a0), some (.int a1), some (.int a2), some (.int 0), some (.int a1), none]) (dc_X1_part 3 rfl) rfl ?_
  refine Sx.regK1 (pc2 := 67) (L2 := fun (x3_67_1 : Int32) => [none, none, none, some (.int x3_67_1), none, none]) (st2 := fun (x3_67_1 : Int32) => []) (h2 := fun (x3_67_1 : Int32) => h) ?_ (fun Q1 hK1 => ?_)
  · intro x3_67_1
    show Sx K cX1_part 67 [none, none, none, some (.int x3_67_1), none, none] [] h _ _
    refine S_iload_n (dc_X1_part 40 rfl) rfl ?_
    exact S_iret (dc_X1_part 41 rfl) hT rfl (fun q => by cases q; exact hr)
  · have hK1 : ∀ (x3_67_1 : Int32), Sx K cX1_part 67 [none, none, none, some (.int x3_67_1), none, none] [] h (some x3_67_1) Q1 := hK1
    have ih1 : ∀ (n : Nat) (x3_5 : Int32) (x4_5 : Int32), Sx K cX1_part 5 [some (.ref a0), some (.int a1), some (.int a2), some (.int x3_5), some (.int x4_5), none] [] h (lp_X1_part_5 F h a0 a1 a2 n x3_5 x4_5) Q1 := by
      intro n
      induction n with
      | zero => intro x3_5 x4_5; exact Sx.none
      | succ n ih1 =>
        intro x3_5 x4_5
        rw [lp_X1_part_5.eq_2]
        refine S_iload (dc_X1_part 4 rfl) rfl ?_
        refine S_iload_n (dc_X1_part 5 rfl) rfl ?_
        refine S_icmp_gt 67 (dc_X1_part 6 rfl) rfl (fun c8 => ?_) (fun c8 => ?_)
        · refine Sx.cut [false, false, false, true, false, true] ?_
          exact hK1 x3_5
        · refine S_iload (dc_X1_part 7 rfl) rfl ?_
          refine S_iload_n (dc_X1_part 8 rfl) rfl ?_
          refine Sx.regK1 (pc2 := 25) (L2 := fun (s25_2 : Int32) => [some (.ref a0), some (.int a1), some (.int a2), some (.int x3_5), some (.int x4_5), none]) (st2 := fun (s25_2 : Int32) => [.int s25_2]) (h2 := fun (s25_2 : Int32) => h) ?_ (fun Q2 hK2 => ?_)
          · intro s25_2
            show Sx K cX1_part 25 [some (.ref a0), some (.int a1), some (.int a2), some (.int x3_5), some (.int x4_5), none] [.int s25_2] h _ _
            refine S_istore (L' := [some (.ref a0), some (.int a1), some (.int a2), some (.int x3_5), some (.int x4_5), some (.int s25_2)]) (dc_X1_part 15 rfl) rfl ?_
            refine S_iload_n (dc_X1_part 16 rfl) rfl ?_
            refine S_aload_n (dc_X1_part 17 rfl) rfl ?_
            refine S_getA (dc_X1_part 18 rfl) ho fl_X1_121_0_25 (fun _ _ => rfl) (fun x29 e29 => ?_)
            refine S_iload (dc_X1_part 19 rfl) rfl ?_
            refine S_iald (dc_X1_part 20 rfl) (fun x34 e34 => ?_)
            refine S_aload_n (dc_X1_part 21 rfl) rfl ?_
            refine S_getA (dc_X1_part 22 rfl) ho fl_X1_124_0_26 (fun _ _ => rfl) (fun x36 e36 => ?_)
            refine S_iload (dc_X1_part 23 rfl) rfl ?_
            refine S_iald (dc_X1_part 24 rfl) (fun x41 e41 => ?_)
            refine S_imul (dc_X1_part 25 rfl) ?_
            refine S_aload_n (dc_X1_part 26 rfl) rfl ?_
            refine S_getA (dc_X1_part 27 rfl) ho fl_X1_121_0_25 (fun _ _ => rfl) (fun x44 e44 => ?_)
            refine S_iload (dc_X1_part 28 rfl) rfl ?_
            refine S_iald (dc_X1_part 29 rfl) (fun x49 e49 => ?_)
            refine S_aload_n (dc_X1_part 30 rfl) rfl ?_
            refine S_getA (dc_X1_part 31 rfl) ho fl_X1_124_0_26 (fun _ _ => rfl) (fun x51 e51 => ?_)
            refine S_iload (dc_X1_part 32 rfl) rfl ?_
            refine S_iald (dc_X1_part 33 rfl) (fun x56 e56 => ?_)
            refine S_imul (dc_X1_part 34 rfl) ?_
            refine S_isub (dc_X1_part 35 rfl) ?_
            refine S_iadd (dc_X1_part 36 rfl) ?_
            refine Sx.nameI (fun x60 n60 => ?_)
            refine S_istore_n (L' := [some (.ref a0), some (.int a1), some (.int a2), some (.int x60), some (.int x4_5), some (.int s25_2)]) (dc_X1_part 37 rfl) rfl ?_
            refine S_iincN 1 (L' := fun x61 => [some (.ref a0), some (.int a1), some (.int a2), some (.int x60), some (.int x61), some (.int s25_2)]) (dc_X1_part 38 rfl) rfl rfl (fun _ => rfl) (fun x61 n61 => ?_)
            refine S_goto 5 (dc_X1_part 39 rfl) rfl ?_
            refine Sx.cut [true, true, true, true, true, false] ?_
            exact ih1 x60 x61
          · have hK2 : ∀ (s25_2 : Int32), Sx K cX1_part 25 [some (.ref a0), some (.int a1), some (.int a2), some (.int x3_5), some (.int x4_5), none] [.int s25_2] h (some s25_2) Q2 := hK2
            refine S_icmp_ne 21 (dc_X1_part 9 rfl) rfl (fun c14 => ?_) (fun c14 => ?_)
            · refine S_iload (dc_X1_part 12 rfl) rfl ?_
              refine S_iconst_ 1 (dc_X1_part 13 rfl) rfl ?_
              refine S_iadd (dc_X1_part 14 rfl) ?_
              exact hK2 (x4_5 + 1)
            · refine S_iload_n (dc_X1_part 10 rfl) rfl ?_
              refine S_goto 25 (dc_X1_part 11 rfl) rfl ?_
              exact hK2 a1
    exact ih1 F 0 a1
abbrev cX1_isThrough : ByteArray := prog_1_method_64_code
def yX1_isThrough : MethodName := ⟨"PegBands", "isThrough", "(LPegBands$Band;II)Z"⟩
def tb_X1_isThrough : List (Nat × Instr × Nat) := [(0, .aload_n 0, 1), (1, .getfield 121, 3), (4, .iload_n 2, 1), (5, .iaload, 1), (6, .istore 4, 2), (8, .aload_n 0, 1), (9, .getfield 124, 3), (12, .iload_n 2, 1), (13, .iaload, 1), (14, .istore 5, 2), (16, .aload_n 0, 1), (17, .getfield 121, 3), (20, .iload_n 3, 1), (21, .iaload, 1), (22, .istore 6, 2), (24, .aload_n 0, 1), (25, .getfield 124, 3), (28, .iload_n 3, 1), (29, .iaload, 1), (30, .istore 7, 2), (32, .aload_n 1, 1), (33, .iload 4, 2), (35, .iload 6, 2), (37, .iadd, 1), (38, .iload 5, 2), (40, .iload 7, 2), (42, .iadd, 1), (43, .invokevirtual 279, 3), (46, .iconst 2, 1), (47, .if_icmp .eq 5, 3), (50, .iconst 0, 1), (51, .ireturn, 1), (52, .iconst 0, 1), (53, .istore 8, 2), (55, .iload 8, 2), (57, .aload_n 1, 1), (58, .getfield 251, 3), (61, .if_icmp .ge 152, 3), (64, .aload_n 1, 1), (65, .iload 8, 2), (67, .invokevirtual 376, 3), (70, .istore 9, 2), (72, .iload 4, 2), (74, .iload 5, 2), (76, .iload 6, 2), (78, .iload 7, 2), (80, .aload_n 1, 1), (81, .getfield 273, 3), (84, .iload 8, 2), (86, .iaload, 1), (87, .aload_n 1, 1), (88, .getfield 270, 3), (91, .iload 8, 2), (93, .iaload, 1), (94, .aload_n 1, 1), (95, .getfield 273, 3), (98, .iload 9, 2), (100, .iaload, 1), (101, .aload_n 1, 1), (102, .getfield 270, 3), (105, .iload 9, 2), (107, .iaload, 1), (108, .invokestatic 413, 3), (111, .iconst 1, 1), (112, .if_icmp .ne 5, 3), (115, .iconst 0, 1), (116, .ireturn, 1), (117, .aload_n 1, 1), (118, .getfield 273, 3), (121, .iload 8, 2), (123, .iaload, 1), (124, .iload 4, 2), (126, .if_icmp .ne 15, 3), (129, .aload_n 1, 1), (130, .getfield 270, 3), (133, .iload 8, 2), (135, .iaload, 1), (136, .iload 5, 2), (138, .if_icmp .eq 27, 3), (141, .aload_n 1, 1), (142, .getfield 273, 3), (145, .iload 8, 2), (147, .iaload, 1), (148, .iload 6, 2), (150, .if_icmp .ne 19, 3), (153, .aload_n 1, 1), (154, .getfield 270, 3), (157, .iload 8, 2), (159, .iaload, 1), (160, .iload 7, 2), (162, .if_icmp .ne 7, 3), (165, .iconst 1, 1), (166, .goto 4, 3), (169, .iconst 0, 1), (170, .istore 10, 2), (172, .iload 10, 2), (174, .ifCond .ne 33, 3), (177, .iload 4, 2), (179, .iload 5, 2), (181, .iload 6, 2), (183, .iload 7, 2), (185, .aload_n 1, 1), (186, .getfield 273, 3), (189, .iload 8, 2), (191, .iaload, 1), (192, .aload_n 1, 1), (193, .getfield 270, 3), (196, .iload 8, 2), (198, .iaload, 1), (199, .invokestatic 195, 3), (202, .ifCond .eq 5, 3), (205, .iconst 0, 1), (206, .ireturn, 1), (207, .iinc 8 1, 3), (210, .goto (-155), 3), (213, .iconst 1, 1), (214, .ireturn, 1)]
theorem tk_X1_isThrough : ∀ q ∈ tb_X1_isThrough, decode cX1_isThrough q.1 = .ok q.2 := by decide +kernel
theorem dc_X1_isThrough (k : Nat) {pc n : Nat} {i : Instr} (h : tb_X1_isThrough[k]? = some (pc, i, n)) : decode cX1_isThrough pc = .ok (i, n) := tk_X1_isThrough (pc, i, n) (List.mem_of_getElem? h)
abbrev mX1_isThrough : e_M := (yX1_isThrough, cX1_isThrough, 11, some (.boolean), [])
theorem ok_X1_isThrough : e_mok mX1_isThrough 3 := ⟨q1156, q108, by decide +kernel, fun sig h => by cases h; rfl⟩
def lp_X1_isThrough_55 (F : Nat) (h : e_H) (a1 : Nat) (x5 : Int32) (x13 : Int32) (x21 : Int32) (x29 : Int32) : Nat → Int32 → Option (Except Int32 Unit)
  | 0, _ => none
  | n + 1, x8_55 =>
    Option.bind (e_fI h a1 6 2) (fun x58 =>
    if x58 ≤ x8_55 then
      some (.ok ())
    else
      Option.bind (f_X8_next h a1 x8_55) (fun x67 =>
      Option.bind (e_fA h a1 6 0) (fun x81 =>
      Option.bind (e_aI h x81 0 x8_55) (fun x86 =>
      Option.bind (e_fA h a1 6 1) (fun x88 =>
      Option.bind (e_aI h x88 0 x8_55) (fun x93 =>
      Option.bind (e_fA h a1 6 0) (fun x95 =>
      Option.bind (e_aI h x95 0 x67) (fun x100 =>
      Option.bind (e_fA h a1 6 1) (fun x102 =>
      Option.bind (e_aI h x102 0 x67) (fun x107 =>
      Option.bind (f_X1_meets x5 x13 x21 x29 x86 x93 x100 x107) (fun x108 =>
      if x108 = 1 then
        some (.error 0)
      else
        Option.bind (e_fA h a1 6 0) (fun x118 =>
        Option.bind (e_aI h x118 0 x8_55) (fun x123 =>
        Option.bind (
            e_bE (
                e_bE (
                    if x123 = x5 then
                      Option.bind (e_fA h a1 6 1) (fun x130 =>
                      Option.bind (e_aI h x130 0 x8_55) (fun x135 =>
                      if x135 = x13 then
                        some (.error (.ok ()))
                      else
                        some (.ok ())))
                    else
                      some (.ok ())
                  : Option (Except (Except Int32 Unit) Unit)) (fun _ =>
                Option.bind (e_fA h a1 6 0) (fun x142 =>
                Option.bind (e_aI h x142 0 x8_55) (fun x147 =>
                e_bE (
                    if x147 = x21 then
                      Option.bind (e_fA h a1 6 1) (fun x154 =>
                      Option.bind (e_aI h x154 0 x8_55) (fun x159 =>
                      if x159 = x29 then
                        some (.error (.ok ()))
                      else
                        some (.ok ())))
                    else
                      some (.ok ())
                  : Option (Except (Except Int32 Unit) Unit)) (fun _ =>
                some (.error 0)))))
              : Option (Except Int32 Unit)) (fun _ =>
            some 1)
          : Option (Int32)) (fun s170_2 =>
        e_bE (
            if s170_2 = 0 then
              Option.bind (e_fA h a1 6 0) (fun x186 =>
              Option.bind (e_aI h x186 0 x8_55) (fun x191 =>
              Option.bind (e_fA h a1 6 1) (fun x193 =>
              Option.bind (e_aI h x193 0 x8_55) (fun x198 =>
              Option.bind (f_X1_isOn x5 x13 x21 x29 x191 x198) (fun x199 =>
              if x199 = 0 then
                some (.ok ())
              else
                some (.error (.error 0)))))))
            else
              some (.ok ())
          : Option (Except (Except Int32 Unit) Unit)) (fun _ =>
        Option.bind (some (x8_55 + 1)) (fun x207 =>
        lp_X1_isThrough_55 F h a1 x5 x13 x21 x29 n x207))))))))))))))))
def f_X1_isThrough (F : Nat) (h : e_H) (a0 : Nat) (a1 : Nat) (a2 : Int32) (a3 : Int32) : Option Int32 :=
  Option.bind (e_fA h a0 0 25) (fun x1 =>
  Option.bind (e_aI h x1 0 a2) (fun x5 =>
  Option.bind (e_fA h a0 0 26) (fun x9 =>
  Option.bind (e_aI h x9 0 a2) (fun x13 =>
  Option.bind (e_fA h a0 0 25) (fun x17 =>
  Option.bind (e_aI h x17 0 a3) (fun x21 =>
  Option.bind (e_fA h a0 0 26) (fun x25 =>
  Option.bind (e_aI h x25 0 a3) (fun x29 =>
  Option.bind (e_is h a1 6) (fun _ =>
  Option.bind (f_X8_place F h a1 (x5 + x21) (x13 + x29)) (fun x43 =>
  if x43 = 2 then
    e_bE (
        lp_X1_isThrough_55 F h a1 x5 x13 x21 x29 F 0
      : Option (Except Int32 Unit)) (fun _ =>
    some 1)
  else
    some 0))))))))))
set_option maxHeartbeats 4000000 in
set_option maxRecDepth 100000 in
theorem ct_X1_isThrough {l : Launch} {D : e_D} {B : Heap} {F : Nat} {d : Nat} {h : e_H} {a0 : Nat} {a1 : Nat} {a2 : Int32} {a3 : Int32} {v : Int32} (hd : 4 ≤ d) (e : f_X1_isThrough F h a0 a1 a2 a3 = some v) : e_Run l D B d mX1_isThrough [.ref a0, .ref a1, .int a2, .int a3] h (.ok (some (.int v)), h) := by
  refine e_start [some (.ref a0), some (.ref a1), some (.int a2), some (.int a3), none, none, none, none, none, none, none] (by decide) rfl rfl rfl (Nat.le_of_ble_eq_true rfl) (fun K hl0 hD0 hB0 hM hd0 hr => ?_)
  subst hl0 hD0 hB0 hd0
  have ho : (k_M K).1.cls = "PegBands" := by rw [hM]; rfl
  have hT : (k_M K).2.2.2.1 = some (.boolean) := by rw [hM]
  refine (show Sx K cX1_isThrough 0 [some (.ref a0), some (.ref a1), some (.int a2), some (.int a3), none, none, none, none, none, none, none] [] h (f_X1_isThrough F h a0 a1 a2 a3) (fun w => w = v) from ?_) _ e rfl
  clear e
  unfold f_X1_isThrough
  refine S_aload_n (dc_X1_isThrough 0 rfl) rfl ?_
  refine S_getA (dc_X1_isThrough 1 rfl) ho fl_X1_121_0_25 (fun _ _ => rfl) (fun x1 e1 => ?_)
  refine S_iload_n (dc_X1_isThrough 2 rfl) rfl ?_
  refine S_iald (dc_X1_isThrough 3 rfl) (fun x5 e5 => ?_)
  refine S_istore (L' := [some (.ref a0), some (.ref a1), some (.int a2), some (.int a3), some (.int x5), none, none, none, none, none, none]) (dc_X1_isThrough 4 rfl) rfl ?_
  refine S_aload_n (dc_X1_isThrough 5 rfl) rfl ?_
  refine S_getA (dc_X1_isThrough 6 rfl) ho fl_X1_124_0_26 (fun _ _ => rfl) (fun x9 e9 => ?_)
  refine S_iload_n (dc_X1_isThrough 7 rfl) rfl ?_
  refine S_iald (dc_X1_isThrough 8 rfl) (fun x13 e13 => ?_)
  refine S_istore (L' := [some (.ref a0), some (.ref a1), some (.int a2), some (.int a3), some (.int x5), some (.int x13), none, none, none, none, none]) (dc_X1_isThrough 9 rfl) rfl ?_
  refine S_aload_n (dc_X1_isThrough 10 rfl) rfl ?_
  refine S_getA (dc_X1_isThrough 11 rfl) ho fl_X1_121_0_25 (fun _ _ => rfl) (fun x17 e17 => ?_)
  refine S_iload_n (dc_X1_isThrough 12 rfl) rfl ?_
  refine S_iald (dc_X1_isThrough 13 rfl) (fun x21 e21 => ?_)
  refine S_istore (L' := [some (.ref a0), some (.ref a1), some (.int a2), some (.int a3), some (.int x5), some (.int x13), some (.int x21), none, none, none, none]) (dc_X1_isThrough 14 rfl) rfl ?_
  refine S_aload_n (dc_X1_isThrough 15 rfl) rfl ?_
  refine S_getA (dc_X1_isThrough 16 rfl) ho fl_X1_124_0_26 (fun _ _ => rfl) (fun x25 e25 => ?_)
  refine S_iload_n (dc_X1_isThrough 17 rfl) rfl ?_
  refine S_iald (dc_X1_isThrough 18 rfl) (fun x29 e29 => ?_)
  refine S_istore (L' := [some (.ref a0), some (.ref a1), some (.int a2), some (.int a3), some (.int x5), some (.int x13), some (.int x21), some (.int x29), none, none, none]) (dc_X1_isThrough 19 rfl) rfl ?_
  refine S_aload_n (dc_X1_isThrough 20 rfl) rfl ?_
  refine S_iload (dc_X1_isThrough 21 rfl) rfl ?_
  refine S_iload (dc_X1_isThrough 22 rfl) rfl ?_
  refine S_iadd (dc_X1_isThrough 23 rfl) ?_
  refine S_iload (dc_X1_isThrough 24 rfl) rfl ?_
  refine S_iload (dc_X1_isThrough 25 rfl) rfl ?_
  refine S_iadd (dc_X1_isThrough 26 rfl) ?_
  refine Sx.ask (fun _ i43 => ?_)
  refine S_roI (d := k_d K - 1) (e_callV (b := a1) (As := [.int (x5 + x21), .int (x13 + x29)]) (rest := []) ok_X8_place rfl (Nat.le_of_ble_eq_true rfl) (dc_X1_isThrough 27 rfl) ho q875 q876 (show e_cl[6]? = some (RX8, TX8, 4) from rfl) (e_sel.of q877) (e_is_of i43) rfl (Nat.le_of_ble_eq_true rfl)) (by omega) (fun _ e => ct_X8_place (by omega) e) (fun x43 e43 => ?_)
  refine S_iconst_ 2 (dc_X1_isThrough 28 rfl) rfl ?_
  refine S_icmp_eq 52 (dc_X1_isThrough 29 rfl) rfl (fun c47 => ?_) (fun c47 => ?_)
  · refine S_iconst_ 0 (dc_X1_isThrough 32 rfl) rfl ?_
    refine S_istore (L' := [some (.ref a0), some (.ref a1), some (.int a2), some (.int a3), some (.int x5), some (.int x13), some (.int x21), some (.int x29), some (.int 0), none, none]) (dc_X1_isThrough 33 rfl) rfl ?_
    refine Sx.regKE0 (pc2 := 213) (L2 := [none, none, none, none, none, none, none, none, none, none, none]) (st2 := []) (h2 := h) ?_ (fun Q1 hK1 hE1 => ?_)
    · skip
      refine S_iconst_ 1 (dc_X1_isThrough 115 rfl) rfl ?_
      exact S_iret (dc_X1_isThrough 116 rfl) hT rfl (fun q => by cases q; exact hr)
    · have hK1 : Sx K cX1_isThrough 213 [none, none, none, none, none, none, none, none, none, none, none] [] h (some (.ok ())) Q1 := hK1
      have ih1 : ∀ (n : Nat) (x8_55 : Int32), Sx K cX1_isThrough 55 [none, some (.ref a1), none, none, some (.int x5), some (.int x13), some (.int x21), some (.int x29), some (.int x8_55), none, none] [] h (lp_X1_isThrough_55 F h a1 x5 x13 x21 x29 n x8_55) Q1 := by
        intro n
        induction n with
        | zero => intro x8_55; exact Sx.none
        | succ n ih1 =>
          intro x8_55
          rw [lp_X1_isThrough_55.eq_2]
          refine S_iload (dc_X1_isThrough 34 rfl) rfl ?_
          refine S_aload_n (dc_X1_isThrough 35 rfl) rfl ?_
          refine S_getI (dc_X1_isThrough 36 rfl) ho fl_X1_251_6_2 (fun _ _ => rfl) (fun x58 e58 => ?_)
          refine S_icmp_ge 213 (dc_X1_isThrough 37 rfl) rfl (fun c61 => ?_) (fun c61 => ?_)
          · refine Sx.cut [true, false, true, true, false, false, false, false, false, true, true] ?_
            exact hK1
          · refine S_aload_n (dc_X1_isThrough 38 rfl) rfl ?_
            refine S_iload (dc_X1_isThrough 39 rfl) rfl ?_
            refine S_roI (d := k_d K - 1) (e_callV (b := a1) (As := [.int x8_55]) (rest := []) ok_X8_next rfl (Nat.le_of_ble_eq_true rfl) (dc_X1_isThrough 40 rfl) ho q1092 q799 (show e_cl[6]? = some (RX8, TX8, 4) from rfl) (e_sel.of q800) (e_is_of i43) rfl (Nat.le_of_ble_eq_true rfl)) (by omega) (fun _ e => ct_X8_next (by omega) e) (fun x67 e67 => ?_)
            refine S_istore (L' := [none, some (.ref a1), none, none, some (.int x5), some (.int x13), some (.int x21), some (.int x29), some (.int x8_55), some (.int x67), none]) (dc_X1_isThrough 41 rfl) rfl ?_
            refine S_iload (dc_X1_isThrough 42 rfl) rfl ?_
            refine S_iload (dc_X1_isThrough 43 rfl) rfl ?_
            refine S_iload (dc_X1_isThrough 44 rfl) rfl ?_
            refine S_iload (dc_X1_isThrough 45 rfl) rfl ?_
            refine S_aload_n (dc_X1_isThrough 46 rfl) rfl ?_
            refine S_getA (dc_X1_isThrough 47 rfl) ho fl_X1_273_6_0 (fun _ _ => rfl) (fun x81 e81 => ?_)
            refine S_iload (dc_X1_isThrough 48 rfl) rfl ?_
            refine S_iald (dc_X1_isThrough 49 rfl) (fun x86 e86 => ?_)
            refine S_aload_n (dc_X1_isThrough 50 rfl) rfl ?_
            refine S_getA (dc_X1_isThrough 51 rfl) ho fl_X1_270_6_1 (fun _ _ => rfl) (fun x88 e88 => ?_)
            refine S_iload (dc_X1_isThrough 52 rfl) rfl ?_
            refine S_iald (dc_X1_isThrough 53 rfl) (fun x93 e93 => ?_)
            refine S_aload_n (dc_X1_isThrough 54 rfl) rfl ?_
            refine S_getA (dc_X1_isThrough 55 rfl) ho fl_X1_273_6_0 (fun _ _ => rfl) (fun x95 e95 => ?_)
            refine S_iload (dc_X1_isThrough 56 rfl) rfl ?_
            refine S_iald (dc_X1_isThrough 57 rfl) (fun x100 e100 => ?_)
            refine S_aload_n (dc_X1_isThrough 58 rfl) rfl ?_
            refine S_getA (dc_X1_isThrough 59 rfl) ho fl_X1_270_6_1 (fun _ _ => rfl) (fun x102 e102 => ?_)
            refine S_iload (dc_X1_isThrough 60 rfl) rfl ?_
            refine S_iald (dc_X1_isThrough 61 rfl) (fun x107 e107 => ?_)
            refine S_roI (d := k_d K - 1) (e_callS (As := [.int x5, .int x13, .int x21, .int x29, .int x86, .int x93, .int x100, .int x107]) (rest := []) ok_X1_meets rfl (Nat.le_of_ble_eq_true rfl) (dc_X1_isThrough 62 rfl) ho q1157 q810 rfl (Nat.le_of_ble_eq_true rfl)) (by omega) (fun _ e => ct_X1_meets (by omega) e) (fun x108 e108 => ?_)
            refine S_iconst_ 1 (dc_X1_isThrough 63 rfl) rfl ?_
            refine S_icmp_ne 117 (dc_X1_isThrough 64 rfl) rfl (fun c112 => ?_) (fun c112 => ?_)
            · refine S_aload_n (dc_X1_isThrough 67 rfl) rfl ?_
              refine S_getA (dc_X1_isThrough 68 rfl) ho fl_X1_273_6_0 (fun _ _ => rfl) (fun x118 e118 => ?_)
              refine S_iload (dc_X1_isThrough 69 rfl) rfl ?_
              refine S_iald (dc_X1_isThrough 70 rfl) (fun x123 e123 => ?_)
              refine S_iload (dc_X1_isThrough 71 rfl) rfl ?_
              refine Sx.regK1 (pc2 := 170) (L2 := fun (s170_2 : Int32) => [none, some (.ref a1), none, none, some (.int x5), some (.int x13), some (.int x21), some (.int x29), some (.int x8_55), none, none]) (st2 := fun (s170_2 : Int32) => [.int s170_2]) (h2 := fun (s170_2 : Int32) => h) ?_ (fun Q2 hK2 => ?_)
              · intro s170_2
                show Sx K cX1_isThrough 170 [none, some (.ref a1), none, none, some (.int x5), some (.int x13), some (.int x21), some (.int x29), some (.int x8_55), none, none] [.int s170_2] h _ _
                refine S_istore (L' := [none, some (.ref a1), none, none, some (.int x5), some (.int x13), some (.int x21), some (.int x29), some (.int x8_55), none, some (.int s170_2)]) (dc_X1_isThrough 94 rfl) rfl ?_
                refine S_iload (dc_X1_isThrough 95 rfl) rfl ?_
                refine Sx.regKE0 (pc2 := 207) (L2 := [none, some (.ref a1), none, none, some (.int x5), some (.int x13), some (.int x21), some (.int x29), some (.int x8_55), none, none]) (st2 := []) (h2 := h) ?_ (fun Q6 hK6 hE6 => ?_)
                · skip
                  refine S_iincN 1 (L' := fun x207 => [none, some (.ref a1), none, none, some (.int x5), some (.int x13), some (.int x21), some (.int x29), some (.int x207), none, none]) (dc_X1_isThrough 113 rfl) rfl rfl (fun _ => rfl) (fun x207 n207 => ?_)
                  refine S_goto 55 (dc_X1_isThrough 114 rfl) rfl ?_
                  exact ih1 x207
                · have hK6 : Sx K cX1_isThrough 207 [none, some (.ref a1), none, none, some (.int x5), some (.int x13), some (.int x21), some (.int x29), some (.int x8_55), none, none] [] h (some (.ok ())) Q6 := hK6
                  refine S_if_ne 207 (dc_X1_isThrough 96 rfl) rfl (fun c174 => ?_) (fun c174 => ?_)
                  · refine Sx.cut [true, true, true, true, true, true, true, true, true, true, false] ?_
                    exact hK6
                  · refine S_iload (dc_X1_isThrough 97 rfl) rfl ?_
                    refine S_iload (dc_X1_isThrough 98 rfl) rfl ?_
                    refine S_iload (dc_X1_isThrough 99 rfl) rfl ?_
                    refine S_iload (dc_X1_isThrough 100 rfl) rfl ?_
                    refine S_aload_n (dc_X1_isThrough 101 rfl) rfl ?_
                    refine S_getA (dc_X1_isThrough 102 rfl) ho fl_X1_273_6_0 (fun _ _ => rfl) (fun x186 e186 => ?_)
                    refine S_iload (dc_X1_isThrough 103 rfl) rfl ?_
                    refine S_iald (dc_X1_isThrough 104 rfl) (fun x191 e191 => ?_)
                    refine S_aload_n (dc_X1_isThrough 105 rfl) rfl ?_
                    refine S_getA (dc_X1_isThrough 106 rfl) ho fl_X1_270_6_1 (fun _ _ => rfl) (fun x193 e193 => ?_)
                    refine S_iload (dc_X1_isThrough 107 rfl) rfl ?_
                    refine S_iald (dc_X1_isThrough 108 rfl) (fun x198 e198 => ?_)
                    refine S_roI (d := k_d K - 1) (e_callS (As := [.int x5, .int x13, .int x21, .int x29, .int x191, .int x198]) (rest := []) ok_X1_isOn rfl (Nat.le_of_ble_eq_true rfl) (dc_X1_isThrough 109 rfl) ho q816 q817 rfl (Nat.le_of_ble_eq_true rfl)) (by omega) (fun _ e => ct_X1_isOn (by omega) e) (fun x199 e199 => ?_)
                    refine S_if_eq 207 (dc_X1_isThrough 110 rfl) rfl (fun c202 => ?_) (fun c202 => ?_)
                    · refine Sx.cut [true, true, true, true, true, true, true, true, true, true, false] ?_
                      exact hK6
                    · refine S_iconst_ 0 (dc_X1_isThrough 111 rfl) rfl ?_
                      refine Sx.err hE6 ?_
                      refine Sx.err hE1 ?_
                      exact S_iret (dc_X1_isThrough 112 rfl) hT rfl (fun q => by cases q; exact hr)
              · have hK2 : ∀ (s170_2 : Int32), Sx K cX1_isThrough 170 [none, some (.ref a1), none, none, some (.int x5), some (.int x13), some (.int x21), some (.int x29), some (.int x8_55), none, none] [.int s170_2] h (some s170_2) Q2 := hK2
                refine Sx.regKE0 (pc2 := 165) (L2 := [none, some (.ref a1), none, none, some (.int x5), some (.int x13), some (.int x21), some (.int x29), some (.int x8_55), none, none]) (st2 := []) (h2 := h) ?_ (fun Q3 hK3 hE3 => ?_)
                · skip
                  refine S_iconst_ 1 (dc_X1_isThrough 91 rfl) rfl ?_
                  refine S_goto 170 (dc_X1_isThrough 92 rfl) rfl ?_
                  exact hK2 1
                · have hK3 : Sx K cX1_isThrough 165 [none, some (.ref a1), none, none, some (.int x5), some (.int x13), some (.int x21), some (.int x29), some (.int x8_55), none, none] [] h (some (.ok ())) Q3 := hK3
                  refine Sx.regKE0 (pc2 := 141) (L2 := [none, some (.ref a1), none, none, some (.int x5), some (.int x13), some (.int x21), some (.int x29), some (.int x8_55), none, none]) (st2 := []) (h2 := h) ?_ (fun Q4 hK4 hE4 => ?_)
                  · skip
                    refine S_aload_n (dc_X1_isThrough 79 rfl) rfl ?_
                    refine S_getA (dc_X1_isThrough 80 rfl) ho fl_X1_273_6_0 (fun _ _ => rfl) (fun x142 e142 => ?_)
                    refine S_iload (dc_X1_isThrough 81 rfl) rfl ?_
                    refine S_iald (dc_X1_isThrough 82 rfl) (fun x147 e147 => ?_)
                    refine S_iload (dc_X1_isThrough 83 rfl) rfl ?_
                    refine Sx.regKE0 (pc2 := 169) (L2 := [none, some (.ref a1), none, none, some (.int x5), some (.int x13), some (.int x21), some (.int x29), some (.int x8_55), none, none]) (st2 := []) (h2 := h) ?_ (fun Q5 hK5 hE5 => ?_)
                    · skip
                      refine S_iconst_ 0 (dc_X1_isThrough 93 rfl) rfl ?_
                      refine Sx.err hE3 ?_
                      exact hK2 0
                    · have hK5 : Sx K cX1_isThrough 169 [none, some (.ref a1), none, none, some (.int x5), some (.int x13), some (.int x21), some (.int x29), some (.int x8_55), none, none] [] h (some (.ok ())) Q5 := hK5
                      refine S_icmp_ne 169 (dc_X1_isThrough 84 rfl) rfl (fun c150 => ?_) (fun c150 => ?_)
                      · exact hK5
                      · refine S_aload_n (dc_X1_isThrough 85 rfl) rfl ?_
                        refine S_getA (dc_X1_isThrough 86 rfl) ho fl_X1_270_6_1 (fun _ _ => rfl) (fun x154 e154 => ?_)
                        refine S_iload (dc_X1_isThrough 87 rfl) rfl ?_
                        refine S_iald (dc_X1_isThrough 88 rfl) (fun x159 e159 => ?_)
                        refine S_iload (dc_X1_isThrough 89 rfl) rfl ?_
                        refine S_icmp_ne 169 (dc_X1_isThrough 90 rfl) rfl (fun c162 => ?_) (fun c162 => ?_)
                        · exact hK5
                        · refine Sx.err hE5 ?_
                          exact hK3
                  · have hK4 : Sx K cX1_isThrough 141 [none, some (.ref a1), none, none, some (.int x5), some (.int x13), some (.int x21), some (.int x29), some (.int x8_55), none, none] [] h (some (.ok ())) Q4 := hK4
                    refine S_icmp_ne 141 (dc_X1_isThrough 72 rfl) rfl (fun c126 => ?_) (fun c126 => ?_)
                    · refine Sx.cut [true, true, true, true, true, true, true, true, true, false, true] ?_
                      exact hK4
                    · refine S_aload_n (dc_X1_isThrough 73 rfl) rfl ?_
                      refine S_getA (dc_X1_isThrough 74 rfl) ho fl_X1_270_6_1 (fun _ _ => rfl) (fun x130 e130 => ?_)
                      refine S_iload (dc_X1_isThrough 75 rfl) rfl ?_
                      refine S_iald (dc_X1_isThrough 76 rfl) (fun x135 e135 => ?_)
                      refine S_iload (dc_X1_isThrough 77 rfl) rfl ?_
                      refine S_icmp_eq 165 (dc_X1_isThrough 78 rfl) rfl (fun c138 => ?_) (fun c138 => ?_)
                      · refine Sx.cut [true, true, true, true, true, true, true, true, true, false, true] ?_
                        refine Sx.err hE4 ?_
                        exact hK3
                      · refine Sx.cut [true, true, true, true, true, true, true, true, true, false, true] ?_
                        exact hK4
            · refine S_iconst_ 0 (dc_X1_isThrough 65 rfl) rfl ?_
              refine Sx.err hE1 ?_
              exact S_iret (dc_X1_isThrough 66 rfl) hT rfl (fun q => by cases q; exact hr)
      refine Sx.cut [false, true, false, false, true, true, true, true, true, true, true] ?_
      exact ih1 F 0
  · refine S_iconst_ 0 (dc_X1_isThrough 30 rfl) rfl ?_
    exact S_iret (dc_X1_isThrough 31 rfl) hT rfl (fun q => by cases q; exact hr)
abbrev cX1_cuts : ByteArray := prog_1_method_66_code
def yX1_cuts : MethodName := ⟨"PegBands", "cuts", "(II)I"⟩
def tb_X1_cuts : List (Nat × Instr × Nat) := [(0, .aload_n 0, 1), (1, .iload_n 1, 1), (2, .invokevirtual 241, 3), (5, .ifCond .eq 8, 3), (8, .iload_n 2, 1), (9, .iconst (-1), 1), (10, .if_icmp .ge 5, 3), (13, .iconst (-1), 1), (14, .ireturn, 1), (15, .aload_n 0, 1), (16, .getfield 63, 3), (19, .getfield 248, 3), (22, .iload_n 1, 1), (23, .aaload, 1), (24, .astore_n 3, 1), (25, .aload_n 0, 1), (26, .aload_n 3, 1), (27, .invokevirtual 417, 3), (30, .iconst 0, 1), (31, .istore 4, 2), (33, .iconst 0, 1), (34, .istore 5, 2), (36, .iload 5, 2), (38, .aload_n 0, 1), (39, .getfield 410, 3), (42, .if_icmp .ge 112, 3), (45, .iload 5, 2), (47, .iconst 1, 1), (48, .iadd, 1), (49, .istore 6, 2), (51, .iload 6, 2), (53, .aload_n 0, 1), (54, .getfield 410, 3), (57, .if_icmp .ge 91, 3), (60, .iconst 2, 1), (61, .aload_n 0, 1), (62, .iload 5, 2), (64, .iload 6, 2), (66, .invokevirtual 420, 3), (69, .imul, 1), (70, .aload_n 3, 1), (71, .invokevirtual 252, 3), (74, .if_icmp .ne 68, 3), (77, .aload_n 0, 1), (78, .aload_n 3, 1), (79, .iload 5, 2), (81, .iload 6, 2), (83, .invokevirtual 423, 3), (86, .ifCond .ne 6, 3), (89, .goto 53, 3), (92, .iload 4, 2), (94, .iload_n 2, 1), (95, .if_icmp .ne 44, 3), (98, .bipush 100, 2), (100, .bipush 10, 2), (102, .aload_n 0, 1), (103, .getfield 124, 3), (106, .iload 5, 2), (108, .iaload, 1), (109, .imul, 1), (110, .aload_n 0, 1), (111, .getfield 121, 3), (114, .iload 5, 2), (116, .iaload, 1), (117, .iadd, 1), (118, .imul, 1), (119, .bipush 10, 2), (121, .aload_n 0, 1), (122, .getfield 124, 3), (125, .iload 6, 2), (127, .iaload, 1), (128, .imul, 1), (129, .iadd, 1), (130, .aload_n 0, 1), (131, .getfield 121, 3), (134, .iload 6, 2), (136, .iaload, 1), (137, .iadd, 1), (138, .ireturn, 1), (139, .iinc 4 1, 3), (142, .iinc 6 1, 3), (145, .goto (-94), 3), (148, .iinc 5 1, 3), (151, .goto (-115), 3), (154, .iload_n 2, 1), (155, .iconst (-1), 1), (156, .if_icmp .ne 8, 3), (159, .iload 4, 2), (161, .goto 4, 3), (164, .iconst (-1), 1), (165, .ireturn, 1)]
theorem tk_X1_cuts : ∀ q ∈ tb_X1_cuts, decode cX1_cuts q.1 = .ok q.2 := by decide +kernel
theorem dc_X1_cuts (k : Nat) {pc n : Nat} {i : Instr} (h : tb_X1_cuts[k]? = some (pc, i, n)) : decode cX1_cuts pc = .ok (i, n) := tk_X1_cuts (pc, i, n) (List.mem_of_getElem? h)
abbrev mX1_cuts : e_M := (yX1_cuts, cX1_cuts, 7, some (.int), [])
theorem ok_X1_cuts : e_mok mX1_cuts 2 := ⟨q1144, q108, by decide +kernel, fun sig h => by cases h; rfl⟩
def lp_X1_cuts_51 (F : Nat) (h27 : e_H) (a0 : Nat) (a2 : Int32) (x23 : Nat) (x5_36 : Int32) : Nat → Int32 → Int32 → Option (Except (Except (Int32 × e_H) Int32) Int32)
  | 0, _, _ => none
  | n + 1, x4_51, x6_51 =>
    Option.bind (e_fI h27 a0 0 27) (fun x54 =>
    if x54 ≤ x6_51 then
      some (.ok x4_51)
    else
      Option.bind (f_X1_part F h27 a0 x5_36 x6_51) (fun x66 =>
      Option.bind (e_is h27 x23 6) (fun _ =>
      Option.bind (f_X8_area F h27 x23) (fun x71 =>
      e_bE (
          if (2 * x66) = x71 then
            Option.bind (f_X1_isThrough F h27 a0 x23 x5_36 x6_51) (fun x83 =>
            if x83 = 0 then
              some (.ok x4_51)
            else
              if x4_51 = a2 then
                Option.bind (e_fA h27 a0 0 26) (fun x103 =>
                Option.bind (e_aI h27 x103 0 x5_36) (fun x108 =>
                Option.bind (e_fA h27 a0 0 25) (fun x111 =>
                Option.bind (e_aI h27 x111 0 x5_36) (fun x116 =>
                Option.bind (e_fA h27 a0 0 26) (fun x122 =>
                Option.bind (e_aI h27 x122 0 x6_51) (fun x127 =>
                Option.bind (e_fA h27 a0 0 25) (fun x131 =>
                Option.bind (e_aI h27 x131 0 x6_51) (fun x136 =>
                some (.error (.error (.error ((((100 * ((10 * x108) + x116)) + (10 * x127)) + x136), h27))))))))))))
              else
                Option.bind (some (x4_51 + 1)) (fun x139 =>
                some (.ok x139)))
          else
            some (.ok x4_51)
        : Option (Except (Except (Except (Int32 × e_H) Int32) Int32) Int32)) (fun x4_142_3 =>
      Option.bind (some (x6_51 + 1)) (fun x142 =>
      lp_X1_cuts_51 F h27 a0 a2 x23 x5_36 n x4_142_3 x142))))))
def lp_X1_cuts_36 (F : Nat) (h27 : e_H) (a0 : Nat) (a2 : Int32) (x23 : Nat) : Nat → Int32 → Int32 → Option (Except (Int32 × e_H) Int32)
  | 0, _, _ => none
  | n + 1, x4_36, x5_36 =>
    Option.bind (e_fI h27 a0 0 27) (fun x39 =>
    if x39 ≤ x5_36 then
      some (.ok x4_36)
    else
      Option.bind (some (x5_36 + 1)) (fun x49 =>
      e_bE (
          lp_X1_cuts_51 F h27 a0 a2 x23 x5_36 F x4_36 x49
        : Option (Except (Except (Int32 × e_H) Int32) Int32)) (fun x4_148_2 =>
      Option.bind (some (x5_36 + 1)) (fun x148 =>
      lp_X1_cuts_36 F h27 a0 a2 x23 n x4_148_2 x148))))
def f_X1_cuts (F : Nat) (h : e_H) (a0 : Nat) (a1 : Int32) (a2 : Int32) : Option (Int32 × e_H) :=
  Option.bind (e_is h a0 0) (fun _ =>
  Option.bind (f_X1_isBand h a0 a1) (fun x2 =>
  if x2 = 0 then
    some ((-1), h)
  else
    if (-1) ≤ a2 then
      Option.bind (e_fA h a0 0 6) (fun x16 =>
      Option.bind (e_fA h x16 2 0) (fun x19 =>
      Option.bind (e_aA h x19 4 a1) (fun x23 =>
      Option.bind (f_X1_along F h a0 x23) (fun h27 =>
      e_bE (
          lp_X1_cuts_36 F h27 a0 a2 x23 F 0 0
        : Option (Except (Int32 × e_H) Int32)) (fun x4_154_1 =>
      if a2 = (-1) then
        some (x4_154_1, h27)
      else
        some ((-1), h27))))))
    else
      some ((-1), h)))
set_option maxHeartbeats 4000000 in
set_option maxRecDepth 100000 in
theorem ct_X1_cuts {l : Launch} {D : e_D} {B : Heap} {F : Nat} {d : Nat} {h : e_H} {a0 : Nat} {a1 : Int32} {a2 : Int32} {v : Int32} {h1 : e_H} (hd : 278 ≤ d) (e : f_X1_cuts F h a0 a1 a2 = some (v, h1)) : e_Run l D B d mX1_cuts [.ref a0, .int a1, .int a2] h (.ok (some (.int v)), h1) := by
  refine e_start [some (.ref a0), some (.int a1), some (.int a2), none, none, none, none] (by decide) rfl rfl rfl (Nat.le_of_ble_eq_true rfl) (fun K hl0 hD0 hB0 hM hd0 hr => ?_)
  subst hl0 hD0 hB0 hd0
  have ho : (k_M K).1.cls = "PegBands" := by rw [hM]; rfl
  have hT : (k_M K).2.2.2.1 = some (.int) := by rw [hM]
  refine (show Sx K cX1_cuts 0 [some (.ref a0), some (.int a1), some (.int a2), none, none, none, none] [] h (f_X1_cuts F h a0 a1 a2) (fun w => w = (v, h1)) from ?_) _ e rfl
  clear e
  unfold f_X1_cuts
  refine S_aload_n (dc_X1_cuts 0 rfl) rfl ?_
  refine S_iload_n (dc_X1_cuts 1 rfl) rfl ?_
  refine Sx.ask (fun _ i2 => ?_)
  refine S_roI (d := k_d K - 1) (e_callV (b := a0) (As := [.int a1]) (rest := []) ok_X1_isBand rfl (Nat.le_of_ble_eq_true rfl) (dc_X1_cuts 2 rfl) ho q859 q861 (show e_cl[0]? = some (RX1, TX1, 37) from rfl) (e_sel.of qs7) (e_is_of i2) rfl (Nat.le_of_ble_eq_true rfl)) (by omega) (fun _ e => ct_X1_isBand (by omega) e) (fun x2 e2 => ?_)
  refine S_if_eq 13 (dc_X1_cuts 3 rfl) rfl (fun c5 => ?_) (fun c5 => ?_)
  · refine S_iconst_ (-1) (dc_X1_cuts 7 rfl) rfl ?_
    exact S_iret (dc_X1_cuts 8 rfl) hT rfl (e_rqI hr)
  · refine S_iload_n (dc_X1_cuts 4 rfl) rfl ?_
    refine S_iconst_ (-1) (dc_X1_cuts 5 rfl) rfl ?_
    refine S_icmp_ge 15 (dc_X1_cuts 6 rfl) rfl (fun c10 => ?_) (fun c10 => ?_)
    · refine S_aload_n (dc_X1_cuts 9 rfl) rfl ?_
      refine S_getA (dc_X1_cuts 10 rfl) ho fl_X1_63_0_6 (fun _ _ => rfl) (fun x16 e16 => ?_)
      refine S_getA (dc_X1_cuts 11 rfl) ho fl_X1_248_2_0 (fun _ _ => rfl) (fun x19 e19 => ?_)
      refine S_iload_n (dc_X1_cuts 12 rfl) rfl ?_
      refine S_aaldA4 (dc_X1_cuts 13 rfl) (fun x23 e23 => ?_)
      refine S_astore_n (L' := [some (.ref a0), some (.int a1), some (.int a2), some (.ref x23), none, none, none]) (dc_X1_cuts 14 rfl) rfl ?_
      refine S_aload_n (dc_X1_cuts 15 rfl) rfl ?_
      refine S_aload_n (dc_X1_cuts 16 rfl) rfl ?_
      refine S_rwV (d := k_d K - 1) (e_callV (b := a0) (As := [.ref x23]) (rest := []) ok_X1_along rfl (Nat.le_of_ble_eq_true rfl) (dc_X1_cuts 17 rfl) ho q1145 q1147 (show e_cl[0]? = some (RX1, TX1, 37) from rfl) (e_sel.of qs21) (e_is_of i2) rfl (Nat.le_of_ble_eq_true rfl)) (by omega) (fun _ e => ct_X1_along (by omega) e) (fun h27 e27 => ?_)
      refine S_iconst_ 0 (dc_X1_cuts 18 rfl) rfl ?_
      refine S_istore (L' := [some (.ref a0), some (.int a1), some (.int a2), some (.ref x23), some (.int 0), none, none]) (dc_X1_cuts 19 rfl) rfl ?_
      refine S_iconst_ 0 (dc_X1_cuts 20 rfl) rfl ?_
      refine S_istore (L' := [some (.ref a0), some (.int a1), some (.int a2), some (.ref x23), some (.int 0), some (.int 0), none]) (dc_X1_cuts 21 rfl) rfl ?_
      refine Sx.regKE1 (pc2 := 154) (L2 := fun (x4_154_1 : Int32) => [none, none, some (.int a2), none, some (.int x4_154_1), none, none]) (st2 := fun (x4_154_1 : Int32) => []) (h2 := fun (x4_154_1 : Int32) => h27) ?_ (fun Q1 hK1 hE1 => ?_)
      · intro x4_154_1
        show Sx K cX1_cuts 154 [none, none, some (.int a2), none, some (.int x4_154_1), none, none] [] h27 _ _
        refine S_iload_n (dc_X1_cuts 84 rfl) rfl ?_
        refine S_iconst_ (-1) (dc_X1_cuts 85 rfl) rfl ?_
        refine S_icmp_ne 164 (dc_X1_cuts 86 rfl) rfl (fun c156 => ?_) (fun c156 => ?_)
        · refine S_iconst_ (-1) (dc_X1_cuts 89 rfl) rfl ?_
          exact S_iret (dc_X1_cuts 90 rfl) hT rfl (e_rqI hr)
        · refine S_iload (dc_X1_cuts 87 rfl) rfl ?_
          refine S_goto 165 (dc_X1_cuts 88 rfl) rfl ?_
          exact S_iret (dc_X1_cuts 90 rfl) hT rfl (e_rqI hr)
      · have hK1 : ∀ (x4_154_1 : Int32), Sx K cX1_cuts 154 [none, none, some (.int a2), none, some (.int x4_154_1), none, none] [] h27 (some (.ok x4_154_1)) Q1 := hK1
        have ih1 : ∀ (n : Nat) (x4_36 : Int32) (x5_36 : Int32), Sx K cX1_cuts 36 [some (.ref a0), none, some (.int a2), some (.ref x23), some (.int x4_36), some (.int x5_36), none] [] h27 (lp_X1_cuts_36 F h27 a0 a2 x23 n x4_36 x5_36) Q1 := by
          intro n
          induction n with
          | zero => intro x4_36 x5_36; exact Sx.none
          | succ n ih1 =>
            intro x4_36 x5_36
            rw [lp_X1_cuts_36.eq_2]
            refine S_iload (dc_X1_cuts 22 rfl) rfl ?_
            refine S_aload_n (dc_X1_cuts 23 rfl) rfl ?_
            refine S_getI (dc_X1_cuts 24 rfl) ho fl_X1_410_0_27 (fun _ _ => rfl) (fun x39 e39 => ?_)
            refine S_icmp_ge 154 (dc_X1_cuts 25 rfl) rfl (fun c42 => ?_) (fun c42 => ?_)
            · refine Sx.cut [false, true, true, false, true, false, true] ?_
              exact hK1 x4_36
            · refine S_iload (dc_X1_cuts 26 rfl) rfl ?_
              refine S_iconst_ 1 (dc_X1_cuts 27 rfl) rfl ?_
              refine S_iadd (dc_X1_cuts 28 rfl) ?_
              refine Sx.nameI (fun x49 n49 => ?_)
              refine S_istore (L' := [some (.ref a0), none, some (.int a2), some (.ref x23), some (.int x4_36), some (.int x5_36), some (.int x49)]) (dc_X1_cuts 29 rfl) rfl ?_
              refine Sx.regKE1 (pc2 := 148) (L2 := fun (x4_148_2 : Int32) => [some (.ref a0), none, some (.int a2), some (.ref x23), some (.int x4_148_2), some (.int x5_36), none]) (st2 := fun (x4_148_2 : Int32) => []) (h2 := fun (x4_148_2 : Int32) => h27) ?_ (fun Q2 hK2 hE2 => ?_)
              · intro x4_148_2
                show Sx K cX1_cuts 148 [some (.ref a0), none, some (.int a2), some (.ref x23), some (.int x4_148_2), some (.int x5_36), none] [] h27 _ _
                refine S_iincN 1 (L' := fun x148 => [some (.ref a0), none, some (.int a2), some (.ref x23), some (.int x4_148_2), some (.int x148), none]) (dc_X1_cuts 82 rfl) rfl rfl (fun _ => rfl) (fun x148 n148 => ?_)
                refine S_goto 36 (dc_X1_cuts 83 rfl) rfl ?_
                exact ih1 x4_148_2 x148
              · have hK2 : ∀ (x4_148_2 : Int32), Sx K cX1_cuts 148 [some (.ref a0), none, some (.int a2), some (.ref x23), some (.int x4_148_2), some (.int x5_36), none] [] h27 (some (.ok x4_148_2)) Q2 := hK2
                have ih2 : ∀ (n : Nat) (x4_51 : Int32) (x6_51 : Int32), Sx K cX1_cuts 51 [some (.ref a0), none, some (.int a2), some (.ref x23), some (.int x4_51), some (.int x5_36), some (.int x6_51)] [] h27 (lp_X1_cuts_51 F h27 a0 a2 x23 x5_36 n x4_51 x6_51) Q2 := by
                  intro n
                  induction n with
                  | zero => intro x4_51 x6_51; exact Sx.none
                  | succ n ih2 =>
                    intro x4_51 x6_51
                    rw [lp_X1_cuts_51.eq_2]
                    refine S_iload (dc_X1_cuts 30 rfl) rfl ?_
                    refine S_aload_n (dc_X1_cuts 31 rfl) rfl ?_
                    refine S_getI (dc_X1_cuts 32 rfl) ho fl_X1_410_0_27 (fun _ _ => rfl) (fun x54 e54 => ?_)
                    refine S_icmp_ge 148 (dc_X1_cuts 33 rfl) rfl (fun c57 => ?_) (fun c57 => ?_)
                    · refine Sx.cut [true, true, true, true, true, true, false] ?_
                      exact hK2 x4_51
                    · refine S_iconst_ 2 (dc_X1_cuts 34 rfl) rfl ?_
                      refine S_aload_n (dc_X1_cuts 35 rfl) rfl ?_
                      refine S_iload (dc_X1_cuts 36 rfl) rfl ?_
                      refine S_iload (dc_X1_cuts 37 rfl) rfl ?_
                      refine S_roI (d := k_d K - 1) (e_callV (b := a0) (As := [.int x5_36, .int x6_51]) (rest := [.int 2]) ok_X1_part rfl (Nat.le_of_ble_eq_true rfl) (dc_X1_cuts 38 rfl) ho q1149 q1151 (show e_cl[0]? = some (RX1, TX1, 37) from rfl) (e_sel.of qs22) (e_fI_of e39).1 rfl (Nat.le_of_ble_eq_true rfl)) (by omega) (fun _ e => ct_X1_part (by omega) e) (fun x66 e66 => ?_)
                      refine S_imul (dc_X1_cuts 39 rfl) ?_
                      refine S_aload_n (dc_X1_cuts 40 rfl) rfl ?_
                      refine Sx.ask (fun _ i71 => ?_)
                      refine S_roI (d := k_d K - 1) (e_callV (b := x23) (As := []) (rest := [.int (2 * x66)]) ok_X8_area rfl (Nat.le_of_ble_eq_true rfl) (dc_X1_cuts 41 rfl) ho q1118 q1119 (show e_cl[6]? = some (RX8, TX8, 4) from rfl) (e_sel.of q1120) (e_is_of i71) rfl (Nat.le_of_ble_eq_true rfl)) (by omega) (fun _ e => ct_X8_area (by omega) e) (fun x71 e71 => ?_)
                      refine Sx.regKE1 (pc2 := 142) (L2 := fun (x4_142_3 : Int32) => [some (.ref a0), none, some (.int a2), some (.ref x23), some (.int x4_142_3), some (.int x5_36), some (.int x6_51)]) (st2 := fun (x4_142_3 : Int32) => []) (h2 := fun (x4_142_3 : Int32) => h27) ?_ (fun Q3 hK3 hE3 => ?_)
                      · intro x4_142_3
                        show Sx K cX1_cuts 142 [some (.ref a0), none, some (.int a2), some (.ref x23), some (.int x4_142_3), some (.int x5_36), some (.int x6_51)] [] h27 _ _
                        refine S_iincN 1 (L' := fun x142 => [some (.ref a0), none, some (.int a2), some (.ref x23), some (.int x4_142_3), some (.int x5_36), some (.int x142)]) (dc_X1_cuts 80 rfl) rfl rfl (fun _ => rfl) (fun x142 n142 => ?_)
                        refine S_goto 51 (dc_X1_cuts 81 rfl) rfl ?_
                        exact ih2 x4_142_3 x142
                      · have hK3 : ∀ (x4_142_3 : Int32), Sx K cX1_cuts 142 [some (.ref a0), none, some (.int a2), some (.ref x23), some (.int x4_142_3), some (.int x5_36), some (.int x6_51)] [] h27 (some (.ok x4_142_3)) Q3 := hK3
                        refine S_icmp_ne 142 (dc_X1_cuts 42 rfl) rfl (fun c74 => ?_) (fun c74 => ?_)
                        · exact hK3 x4_51
                        · refine S_aload_n (dc_X1_cuts 43 rfl) rfl ?_
                          refine S_aload_n (dc_X1_cuts 44 rfl) rfl ?_
                          refine S_iload (dc_X1_cuts 45 rfl) rfl ?_
                          refine S_iload (dc_X1_cuts 46 rfl) rfl ?_
                          refine S_roI (d := k_d K - 1) (e_callV (b := a0) (As := [.ref x23, .int x5_36, .int x6_51]) (rest := []) ok_X1_isThrough rfl (Nat.le_of_ble_eq_true rfl) (dc_X1_cuts 47 rfl) ho q1153 q1155 (show e_cl[0]? = some (RX1, TX1, 37) from rfl) (e_sel.of qs23) (e_fI_of e39).1 rfl (Nat.le_of_ble_eq_true rfl)) (by omega) (fun _ e => ct_X1_isThrough (by omega) e) (fun x83 e83 => ?_)
                          refine S_if_ne 92 (dc_X1_cuts 48 rfl) rfl (fun c86 => ?_) (fun c86 => ?_)
                          · refine S_iload (dc_X1_cuts 50 rfl) rfl ?_
                            refine S_iload_n (dc_X1_cuts 51 rfl) rfl ?_
                            refine S_icmp_ne 139 (dc_X1_cuts 52 rfl) rfl (fun c95 => ?_) (fun c95 => ?_)
                            · refine S_iincN 1 (L' := fun x139 => [some (.ref a0), none, some (.int a2), some (.ref x23), some (.int x139), some (.int x5_36), some (.int x6_51)]) (dc_X1_cuts 79 rfl) rfl rfl (fun _ => rfl) (fun x139 n139 => ?_)
                              exact hK3 x139
                            · refine S_bipush_ 100 (dc_X1_cuts 53 rfl) rfl ?_
                              refine S_bipush_ 10 (dc_X1_cuts 54 rfl) rfl ?_
                              refine S_aload_n (dc_X1_cuts 55 rfl) rfl ?_
                              refine S_getA (dc_X1_cuts 56 rfl) ho fl_X1_124_0_26 (fun _ _ => rfl) (fun x103 e103 => ?_)
                              refine S_iload (dc_X1_cuts 57 rfl) rfl ?_
                              refine S_iald (dc_X1_cuts 58 rfl) (fun x108 e108 => ?_)
                              refine S_imul (dc_X1_cuts 59 rfl) ?_
                              refine S_aload_n (dc_X1_cuts 60 rfl) rfl ?_
                              refine S_getA (dc_X1_cuts 61 rfl) ho fl_X1_121_0_25 (fun _ _ => rfl) (fun x111 e111 => ?_)
                              refine S_iload (dc_X1_cuts 62 rfl) rfl ?_
                              refine S_iald (dc_X1_cuts 63 rfl) (fun x116 e116 => ?_)
                              refine S_iadd (dc_X1_cuts 64 rfl) ?_
                              refine S_imul (dc_X1_cuts 65 rfl) ?_
                              refine S_bipush_ 10 (dc_X1_cuts 66 rfl) rfl ?_
                              refine S_aload_n (dc_X1_cuts 67 rfl) rfl ?_
                              refine S_getA (dc_X1_cuts 68 rfl) ho fl_X1_124_0_26 (fun _ _ => rfl) (fun x122 e122 => ?_)
                              refine S_iload (dc_X1_cuts 69 rfl) rfl ?_
                              refine S_iald (dc_X1_cuts 70 rfl) (fun x127 e127 => ?_)
                              refine S_imul (dc_X1_cuts 71 rfl) ?_
                              refine S_iadd (dc_X1_cuts 72 rfl) ?_
                              refine S_aload_n (dc_X1_cuts 73 rfl) rfl ?_
                              refine S_getA (dc_X1_cuts 74 rfl) ho fl_X1_121_0_25 (fun _ _ => rfl) (fun x131 e131 => ?_)
                              refine S_iload (dc_X1_cuts 75 rfl) rfl ?_
                              refine S_iald (dc_X1_cuts 76 rfl) (fun x136 e136 => ?_)
                              refine S_iadd (dc_X1_cuts 77 rfl) ?_
                              refine Sx.err hE3 ?_
                              refine Sx.err hE2 ?_
                              refine Sx.err hE1 ?_
                              exact S_iret (dc_X1_cuts 78 rfl) hT rfl (e_rqI hr)
                          · refine S_goto 142 (dc_X1_cuts 49 rfl) rfl ?_
                            exact hK3 x4_51
                exact ih2 F x4_36 x49
        refine Sx.cut [true, false, true, true, true, true, true] ?_
        exact ih1 F 0 0
    · refine S_iconst_ (-1) (dc_X1_cuts 7 rfl) rfl ?_
      exact S_iret (dc_X1_cuts 8 rfl) hT rfl (e_rqI hr)
abbrev cX1_spot : ByteArray := prog_1_method_67_code
def yX1_spot : MethodName := ⟨"PegBands", "spot", "(LPegBands$Band;I)I"⟩
def tb_X1_spot : List (Nat × Instr × Nat) := [(0, .aload_n 0, 1), (1, .getfield 63, 3), (4, .getfield 401, 3), (7, .aload_n 1, 1), (8, .getfield 270, 3), (11, .iload_n 2, 1), (12, .iaload, 1), (13, .imul, 1), (14, .aload_n 1, 1), (15, .getfield 273, 3), (18, .iload_n 2, 1), (19, .iaload, 1), (20, .iadd, 1), (21, .ireturn, 1)]
theorem tk_X1_spot : ∀ q ∈ tb_X1_spot, decode cX1_spot q.1 = .ok q.2 := by decide +kernel
theorem dc_X1_spot (k : Nat) {pc n : Nat} {i : Instr} (h : tb_X1_spot[k]? = some (pc, i, n)) : decode cX1_spot pc = .ok (i, n) := tk_X1_spot (pc, i, n) (List.mem_of_getElem? h)
abbrev mX1_spot : e_M := (yX1_spot, cX1_spot, 3, some (.int), [])
theorem ok_X1_spot : e_mok mX1_spot 2 := ⟨q1165, q108, by decide +kernel, fun sig h => by cases h; rfl⟩
def f_X1_spot (h : e_H) (a0 : Nat) (a1 : Nat) (a2 : Int32) : Option Int32 :=
  Option.bind (e_fA h a0 0 6) (fun x1 =>
  Option.bind (e_fI h x1 2 2) (fun x4 =>
  Option.bind (e_fA h a1 6 1) (fun x8 =>
  Option.bind (e_aI h x8 0 a2) (fun x12 =>
  Option.bind (e_fA h a1 6 0) (fun x15 =>
  Option.bind (e_aI h x15 0 a2) (fun x19 =>
  some ((x4 * x12) + x19)))))))
set_option maxHeartbeats 4000000 in
set_option maxRecDepth 100000 in
theorem ct_X1_spot {l : Launch} {D : e_D} {B : Heap} {d : Nat} {h : e_H} {a0 : Nat} {a1 : Nat} {a2 : Int32} {v : Int32} (hd : 1 ≤ d) (e : f_X1_spot h a0 a1 a2 = some v) : e_Run l D B d mX1_spot [.ref a0, .ref a1, .int a2] h (.ok (some (.int v)), h) := by
  refine e_start [some (.ref a0), some (.ref a1), some (.int a2)] (by decide) rfl rfl rfl (Nat.le_of_ble_eq_true rfl) (fun K hl0 hD0 hB0 hM hd0 hr => ?_)
  subst hl0 hD0 hB0 hd0
  have ho : (k_M K).1.cls = "PegBands" := by rw [hM]; rfl
  have hT : (k_M K).2.2.2.1 = some (.int) := by rw [hM]
  refine (show Sx K cX1_spot 0 [some (.ref a0), some (.ref a1), some (.int a2)] [] h (f_X1_spot h a0 a1 a2) (fun w => w = v) from ?_) _ e rfl
  clear e
  unfold f_X1_spot
  refine S_aload_n (dc_X1_spot 0 rfl) rfl ?_
  refine S_getA (dc_X1_spot 1 rfl) ho fl_X1_63_0_6 (fun _ _ => rfl) (fun x1 e1 => ?_)
  refine S_getI (dc_X1_spot 2 rfl) ho fl_X1_401_2_2 (fun _ _ => rfl) (fun x4 e4 => ?_)
  refine S_aload_n (dc_X1_spot 3 rfl) rfl ?_
  refine S_getA (dc_X1_spot 4 rfl) ho fl_X1_270_6_1 (fun _ _ => rfl) (fun x8 e8 => ?_)
  refine S_iload_n (dc_X1_spot 5 rfl) rfl ?_
  refine S_iald (dc_X1_spot 6 rfl) (fun x12 e12 => ?_)
  refine S_imul (dc_X1_spot 7 rfl) ?_
  refine S_aload_n (dc_X1_spot 8 rfl) rfl ?_
  refine S_getA (dc_X1_spot 9 rfl) ho fl_X1_273_6_0 (fun _ _ => rfl) (fun x15 e15 => ?_)
  refine S_iload_n (dc_X1_spot 10 rfl) rfl ?_
  refine S_iald (dc_X1_spot 11 rfl) (fun x19 e19 => ?_)
  refine S_iadd (dc_X1_spot 12 rfl) ?_
  exact S_iret (dc_X1_spot 13 rfl) hT rfl (fun q => by cases q; exact hr)
abbrev cX1_stateOf : ByteArray := prog_1_method_68_code
def yX1_stateOf : MethodName := ⟨"PegBands", "stateOf", "(III)I"⟩
def tb_X1_stateOf : List (Nat × Instr × Nat) := [(0, .iload_n 0, 1), (1, .bipush 36, 2), (3, .imul, 1), (4, .iload_n 1, 1), (5, .iadd, 1), (6, .bipush 36, 2), (8, .imul, 1), (9, .iload_n 2, 1), (10, .iadd, 1), (11, .ireturn, 1)]
theorem tk_X1_stateOf : ∀ q ∈ tb_X1_stateOf, decode cX1_stateOf q.1 = .ok q.2 := by decide +kernel
theorem dc_X1_stateOf (k : Nat) {pc n : Nat} {i : Instr} (h : tb_X1_stateOf[k]? = some (pc, i, n)) : decode cX1_stateOf pc = .ok (i, n) := tk_X1_stateOf (pc, i, n) (List.mem_of_getElem? h)
abbrev mX1_stateOf : e_M := (yX1_stateOf, cX1_stateOf, 3, some (.int), [])
theorem ok_X1_stateOf : e_mok mX1_stateOf 3 := ⟨q1168, q108, by decide +kernel, fun sig h => by cases h; rfl⟩
def f_X1_stateOf (a0 : Int32) (a1 : Int32) (a2 : Int32) : Option Int32 :=
  some ((((a0 * 36) + a1) * 36) + a2)
set_option maxHeartbeats 4000000 in
set_option maxRecDepth 100000 in
theorem ct_X1_stateOf {l : Launch} {D : e_D} {B : Heap} {d : Nat} {h : e_H} {a0 : Int32} {a1 : Int32} {a2 : Int32} {v : Int32} (hd : 1 ≤ d) (e : f_X1_stateOf a0 a1 a2 = some v) : e_Run l D B d mX1_stateOf [.int a0, .int a1, .int a2] h (.ok (some (.int v)), h) := by
  refine e_start [some (.int a0), some (.int a1), some (.int a2)] (by decide) rfl rfl rfl (Nat.le_of_ble_eq_true rfl) (fun K hl0 hD0 hB0 hM hd0 hr => ?_)
  subst hl0 hD0 hB0 hd0
  have ho : (k_M K).1.cls = "PegBands" := by rw [hM]; rfl
  have hT : (k_M K).2.2.2.1 = some (.int) := by rw [hM]
  refine (show Sx K cX1_stateOf 0 [some (.int a0), some (.int a1), some (.int a2)] [] h (f_X1_stateOf a0 a1 a2) (fun w => w = v) from ?_) _ e rfl
  clear e
  unfold f_X1_stateOf
  refine S_iload_n (dc_X1_stateOf 0 rfl) rfl ?_
  refine S_bipush_ 36 (dc_X1_stateOf 1 rfl) rfl ?_
  refine S_imul (dc_X1_stateOf 2 rfl) ?_
  refine S_iload_n (dc_X1_stateOf 3 rfl) rfl ?_
  refine S_iadd (dc_X1_stateOf 4 rfl) ?_
  refine S_bipush_ 36 (dc_X1_stateOf 5 rfl) rfl ?_
  refine S_imul (dc_X1_stateOf 6 rfl) ?_
  refine S_iload_n (dc_X1_stateOf 7 rfl) rfl ?_
  refine S_iadd (dc_X1_stateOf 8 rfl) ?_
  exact S_iret (dc_X1_stateOf 9 rfl) hT rfl (fun q => by cases q; exact hr)
abbrev cX1_reach : ByteArray := prog_1_method_69_code
def yX1_reach : MethodName := ⟨"PegBands", "reach", "(II)V"⟩
def tb_X1_reach : List (Nat × Instr × Nat) := [(0, .aload_n 0, 1), (1, .getfield 128, 3), (4, .iload_n 1, 1), (5, .iaload, 1), (6, .ifCond .le 4, 3), (9, .return_, 1), (10, .aload_n 0, 1), (11, .getfield 128, 3), (14, .iload_n 1, 1), (15, .iload_n 2, 1), (16, .iconst 1, 1), (17, .iadd, 1), (18, .iastore, 1), (19, .aload_n 0, 1), (20, .getfield 131, 3), (23, .aload_n 0, 1), (24, .getfield 427, 3), (27, .iload_n 1, 1), (28, .iastore, 1), (29, .aload_n 0, 1), (30, .dup, 1), (31, .getfield 427, 3), (34, .iconst 1, 1), (35, .iadd, 1), (36, .putfield 427, 3), (39, .return_, 1)]
theorem tk_X1_reach : ∀ q ∈ tb_X1_reach, decode cX1_reach q.1 = .ok q.2 := by decide +kernel
theorem dc_X1_reach (k : Nat) {pc n : Nat} {i : Instr} (h : tb_X1_reach[k]? = some (pc, i, n)) : decode cX1_reach pc = .ok (i, n) := tk_X1_reach (pc, i, n) (List.mem_of_getElem? h)
abbrev mX1_reach : e_M := (yX1_reach, cX1_reach, 3, none, [])
theorem ok_X1_reach : e_mok mX1_reach 2 := ⟨q1172, q108, by decide +kernel, fun sig h => by cases h; rfl⟩
theorem fl_X1_427_0_30 : e_FL "PegBands" 427 0 30 := ⟨_, rfl, by decide, Or.inl q488⟩
def f_X1_reach (h : e_H) (a0 : Nat) (a1 : Int32) (a2 : Int32) : Option e_H :=
  Option.bind (e_fA h a0 0 28) (fun x1 =>
  Option.bind (e_aI h x1 0 a1) (fun x5 =>
  if x5 ≤ 0 then
    Option.bind (e_fA h a0 0 28) (fun x11 =>
    Option.bind (e_wI h x11 0 a1 (a2 + 1)) (fun h18 =>
    Option.bind (e_fA h18 a0 0 29) (fun x20 =>
    Option.bind (e_fI h18 a0 0 30) (fun x24 =>
    Option.bind (e_wI h18 x20 0 x24 a1) (fun h28 =>
    Option.bind (e_fI h28 a0 0 30) (fun x31 =>
    Option.bind (e_gI h28 a0 0 30 (x31 + 1)) (fun h36 =>
    some h36)))))))
  else
    some h))
set_option maxHeartbeats 4000000 in
set_option maxRecDepth 100000 in
theorem ct_X1_reach {l : Launch} {D : e_D} {B : Heap} {d : Nat} {h : e_H} {a0 : Nat} {a1 : Int32} {a2 : Int32} {h1 : e_H} (hd : 1 ≤ d) (e : f_X1_reach h a0 a1 a2 = some h1) : e_Run l D B d mX1_reach [.ref a0, .int a1, .int a2] h (.ok none, h1) := by
  refine e_start [some (.ref a0), some (.int a1), some (.int a2)] (by decide) rfl rfl rfl (Nat.le_of_ble_eq_true rfl) (fun K hl0 hD0 hB0 hM hd0 hr => ?_)
  subst hl0 hD0 hB0 hd0
  have ho : (k_M K).1.cls = "PegBands" := by rw [hM]; rfl
  have hT : (k_M K).2.2.2.1 = none := by rw [hM]
  refine (show Sx K cX1_reach 0 [some (.ref a0), some (.int a1), some (.int a2)] [] h (f_X1_reach h a0 a1 a2) (fun w => w = h1) from ?_) _ e rfl
  clear e
  unfold f_X1_reach
  refine S_aload_n (dc_X1_reach 0 rfl) rfl ?_
  refine S_getA (dc_X1_reach 1 rfl) ho fl_X1_128_0_28 (fun _ _ => rfl) (fun x1 e1 => ?_)
  refine S_iload_n (dc_X1_reach 2 rfl) rfl ?_
  refine S_iald (dc_X1_reach 3 rfl) (fun x5 e5 => ?_)
  refine S_if_le 10 (dc_X1_reach 4 rfl) rfl (fun c6 => ?_) (fun c6 => ?_)
  · refine S_aload_n (dc_X1_reach 6 rfl) rfl ?_
    refine S_getA (dc_X1_reach 7 rfl) ho fl_X1_128_0_28 (fun _ _ => rfl) (fun x11 e11 => ?_)
    refine S_iload_n (dc_X1_reach 8 rfl) rfl ?_
    refine S_iload_n (dc_X1_reach 9 rfl) rfl ?_
    refine S_iconst_ 1 (dc_X1_reach 10 rfl) rfl ?_
    refine S_iadd (dc_X1_reach 11 rfl) ?_
    refine S_iast (dc_X1_reach 12 rfl) (fun h18 e18 => ?_)
    refine S_aload_n (dc_X1_reach 13 rfl) rfl ?_
    refine S_getA (dc_X1_reach 14 rfl) ho fl_X1_131_0_29 (fun _ _ => rfl) (fun x20 e20 => ?_)
    refine S_aload_n (dc_X1_reach 15 rfl) rfl ?_
    refine S_getI (dc_X1_reach 16 rfl) ho fl_X1_427_0_30 (fun _ _ => rfl) (fun x24 e24 => ?_)
    refine S_iload_n (dc_X1_reach 17 rfl) rfl ?_
    refine S_iast (dc_X1_reach 18 rfl) (fun h28 e28 => ?_)
    refine S_aload_n (dc_X1_reach 19 rfl) rfl ?_
    refine S_dup (dc_X1_reach 20 rfl) rfl ?_
    refine S_getI (dc_X1_reach 21 rfl) ho fl_X1_427_0_30 (fun _ _ => rfl) (fun x31 e31 => ?_)
    refine S_iconst_ 1 (dc_X1_reach 22 rfl) rfl ?_
    refine S_iadd (dc_X1_reach 23 rfl) ?_
    refine S_putI (dc_X1_reach 24 rfl) ho fl_X1_427_0_30 (fun _ _ => rfl) (Or.inl rfl) rfl rfl (fun h36 e36 => ?_)
    exact S_vret (dc_X1_reach 25 rfl) hT (fun q => by cases q; exact hr)
  · exact S_vret (dc_X1_reach 5 rfl) hT (fun q => by cases q; exact hr)
abbrev cX1_beside : ByteArray := prog_1_method_71_code
def yX1_beside : MethodName := ⟨"PegBands", "beside", "(II)I"⟩
def tb_X1_beside : List (Nat × Instr × Nat) := [(0, .iload_n 1, 1), (1, .aload_n 0, 1), (2, .getfield 63, 3), (5, .getfield 401, 3), (8, .irem, 1), (9, .iload_n 2, 1), (10, .ifCond .ne 7, 3), (13, .iconst 1, 1), (14, .goto 13, 3), (17, .iload_n 2, 1), (18, .iconst 2, 1), (19, .if_icmp .ne 7, 3), (22, .iconst (-1), 1), (23, .goto 4, 3), (26, .iconst 0, 1), (27, .iadd, 1), (28, .istore_n 3, 1), (29, .iload_n 1, 1), (30, .aload_n 0, 1), (31, .getfield 63, 3), (34, .getfield 401, 3), (37, .idiv, 1), (38, .iload_n 2, 1), (39, .iconst 1, 1), (40, .if_icmp .ne 7, 3), (43, .iconst 1, 1), (44, .goto 13, 3), (47, .iload_n 2, 1), (48, .iconst 3, 1), (49, .if_icmp .ne 7, 3), (52, .iconst (-1), 1), (53, .goto 4, 3), (56, .iconst 0, 1), (57, .iadd, 1), (58, .istore 4, 2), (60, .aload_n 0, 1), (61, .getfield 63, 3), (64, .iload_n 3, 1), (65, .iload 4, 2), (67, .invokevirtual 356, 3), (70, .ifCond .eq 18, 3), (73, .aload_n 0, 1), (74, .getfield 63, 3), (77, .getfield 401, 3), (80, .iload 4, 2), (82, .imul, 1), (83, .iload_n 3, 1), (84, .iadd, 1), (85, .goto 4, 3), (88, .iconst (-1), 1), (89, .ireturn, 1)]
theorem tk_X1_beside : ∀ q ∈ tb_X1_beside, decode cX1_beside q.1 = .ok q.2 := by decide +kernel
theorem dc_X1_beside (k : Nat) {pc n : Nat} {i : Instr} (h : tb_X1_beside[k]? = some (pc, i, n)) : decode cX1_beside pc = .ok (i, n) := tk_X1_beside (pc, i, n) (List.mem_of_getElem? h)
abbrev mX1_beside : e_M := (yX1_beside, cX1_beside, 5, some (.int), [])
theorem ok_X1_beside : e_mok mX1_beside 2 := ⟨q1176, q108, by decide +kernel, fun sig h => by cases h; rfl⟩
def f_X1_beside (h : e_H) (a0 : Nat) (a1 : Int32) (a2 : Int32) : Option Int32 :=
  Option.bind (e_fA h a0 0 6) (fun x2 =>
  Option.bind (e_fI h x2 2 2) (fun x5 =>
  if x5 = 0 then none else
  Option.bind (
      if a2 = 0 then
        some 1
      else
        if a2 = 2 then
          some (-1)
        else
          some 0
    : Option (Int32)) (fun s27_1 =>
  Option.bind (some ((a1 - a1 / x5 * x5) + s27_1)) (fun x28 =>
  Option.bind (e_fA h a0 0 6) (fun x31 =>
  Option.bind (e_fI h x31 2 2) (fun x34 =>
  if x34 = 0 then none else
  Option.bind (
      if a2 = 1 then
        some 1
      else
        if a2 = 3 then
          some (-1)
        else
          some 0
    : Option (Int32)) (fun s57_2 =>
  Option.bind (some ((a1 / x34) + s57_2)) (fun x58 =>
  Option.bind (e_fA h a0 0 6) (fun x61 =>
  Option.bind (e_is h x61 2) (fun _ =>
  Option.bind (f_X3_isPeg h x61 x28 x58) (fun x67 =>
  if x67 = 0 then
    some (-1)
  else
    Option.bind (e_fA h a0 0 6) (fun x74 =>
    Option.bind (e_fI h x74 2 2) (fun x77 =>
    some ((x77 * x58) + x28))))))))))))))
set_option maxHeartbeats 4000000 in
set_option maxRecDepth 100000 in
theorem ct_X1_beside {l : Launch} {D : e_D} {B : Heap} {d : Nat} {h : e_H} {a0 : Nat} {a1 : Int32} {a2 : Int32} {v : Int32} (hd : 4 ≤ d) (e : f_X1_beside h a0 a1 a2 = some v) : e_Run l D B d mX1_beside [.ref a0, .int a1, .int a2] h (.ok (some (.int v)), h) := by
  refine e_start [some (.ref a0), some (.int a1), some (.int a2), none, none] (by decide) rfl rfl rfl (Nat.le_of_ble_eq_true rfl) (fun K hl0 hD0 hB0 hM hd0 hr => ?_)
  subst hl0 hD0 hB0 hd0
  have ho : (k_M K).1.cls = "PegBands" := by rw [hM]; rfl
  have hT : (k_M K).2.2.2.1 = some (.int) := by rw [hM]
  refine (show Sx K cX1_beside 0 [some (.ref a0), some (.int a1), some (.int a2), none, none] [] h (f_X1_beside h a0 a1 a2) (fun w => w = v) from ?_) _ e rfl
  clear e
  unfold f_X1_beside
  refine S_iload_n (dc_X1_beside 0 rfl) rfl ?_
  refine S_aload_n (dc_X1_beside 1 rfl) rfl ?_
  refine S_getA (dc_X1_beside 2 rfl) ho fl_X1_63_0_6 (fun _ _ => rfl) (fun x2 e2 => ?_)
  refine S_getI (dc_X1_beside 3 rfl) ho fl_X1_401_2_2 (fun _ _ => rfl) (fun x5 e5 => ?_)
  refine Sx.ncond (fun c8 => ?_)
  refine S_irem (dc_X1_beside 4 rfl) c8 ?_
  refine S_iload_n (dc_X1_beside 5 rfl) rfl ?_
  refine Sx.regK1 (pc2 := 27) (L2 := fun (s27_1 : Int32) => [some (.ref a0), some (.int a1), some (.int a2), none, none]) (st2 := fun (s27_1 : Int32) => [.int s27_1, .int (a1 - a1 / x5 * x5)]) (h2 := fun (s27_1 : Int32) => h) ?_ (fun Q1 hK1 => ?_)
  · intro s27_1
    show Sx K cX1_beside 27 [some (.ref a0), some (.int a1), some (.int a2), none, none] [.int s27_1, .int (a1 - a1 / x5 * x5)] h _ _
    refine S_iadd (dc_X1_beside 15 rfl) ?_
    refine Sx.nameI (fun x28 n28 => ?_)
    refine S_istore_n (L' := [some (.ref a0), some (.int a1), some (.int a2), some (.int x28), none]) (dc_X1_beside 16 rfl) rfl ?_
    refine S_iload_n (dc_X1_beside 17 rfl) rfl ?_
    refine S_aload_n (dc_X1_beside 18 rfl) rfl ?_
    refine S_getA (dc_X1_beside 19 rfl) ho fl_X1_63_0_6 (fun _ _ => rfl) (fun x31 e31 => ?_)
    refine S_getI (dc_X1_beside 20 rfl) ho fl_X1_401_2_2 (fun _ _ => rfl) (fun x34 e34 => ?_)
    refine Sx.ncond (fun c37 => ?_)
    refine S_idiv (dc_X1_beside 21 rfl) c37 ?_
    refine S_iload_n (dc_X1_beside 22 rfl) rfl ?_
    refine S_iconst_ 1 (dc_X1_beside 23 rfl) rfl ?_
    refine Sx.regK1 (pc2 := 57) (L2 := fun (s57_2 : Int32) => [some (.ref a0), none, none, some (.int x28), none]) (st2 := fun (s57_2 : Int32) => [.int s57_2, .int (a1 / x34)]) (h2 := fun (s57_2 : Int32) => h) ?_ (fun Q2 hK2 => ?_)
    · intro s57_2
      show Sx K cX1_beside 57 [some (.ref a0), none, none, some (.int x28), none] [.int s57_2, .int (a1 / x34)] h _ _
      refine S_iadd (dc_X1_beside 33 rfl) ?_
      refine Sx.nameI (fun x58 n58 => ?_)
      refine S_istore (L' := [some (.ref a0), none, none, some (.int x28), some (.int x58)]) (dc_X1_beside 34 rfl) rfl ?_
      refine S_aload_n (dc_X1_beside 35 rfl) rfl ?_
      refine S_getA (dc_X1_beside 36 rfl) ho fl_X1_63_0_6 (fun _ _ => rfl) (fun x61 e61 => ?_)
      refine S_iload_n (dc_X1_beside 37 rfl) rfl ?_
      refine S_iload (dc_X1_beside 38 rfl) rfl ?_
      refine Sx.ask (fun _ i67 => ?_)
      refine S_roI (d := k_d K - 1) (e_callV (b := x61) (As := [.int x28, .int x58]) (rest := []) ok_X3_isPeg rfl (Nat.le_of_ble_eq_true rfl) (dc_X1_beside 39 rfl) ho q1067 q778 (show e_cl[2]? = some (RX3, TX3, 7) from rfl) (e_sel.of q779) (e_is_of i67) rfl (Nat.le_of_ble_eq_true rfl)) (by omega) (fun _ e => ct_X3_isPeg (by omega) e) (fun x67 e67 => ?_)
      refine S_if_eq 88 (dc_X1_beside 40 rfl) rfl (fun c70 => ?_) (fun c70 => ?_)
      · refine S_iconst_ (-1) (dc_X1_beside 49 rfl) rfl ?_
        exact S_iret (dc_X1_beside 50 rfl) hT rfl (fun q => by cases q; exact hr)
      · refine S_aload_n (dc_X1_beside 41 rfl) rfl ?_
        refine S_getA (dc_X1_beside 42 rfl) ho fl_X1_63_0_6 (fun _ _ => rfl) (fun x74 e74 => ?_)
        refine S_getI (dc_X1_beside 43 rfl) ho fl_X1_401_2_2 (fun _ _ => rfl) (fun x77 e77 => ?_)
        refine S_iload (dc_X1_beside 44 rfl) rfl ?_
        refine S_imul (dc_X1_beside 45 rfl) ?_
        refine S_iload_n (dc_X1_beside 46 rfl) rfl ?_
        refine S_iadd (dc_X1_beside 47 rfl) ?_
        refine S_goto 89 (dc_X1_beside 48 rfl) rfl ?_
        exact S_iret (dc_X1_beside 50 rfl) hT rfl (fun q => by cases q; exact hr)
    · have hK2 : ∀ (s57_2 : Int32), Sx K cX1_beside 57 [some (.ref a0), none, none, some (.int x28), none] [.int s57_2, .int (a1 / x34)] h (some s57_2) Q2 := hK2
      refine S_icmp_ne 47 (dc_X1_beside 24 rfl) rfl (fun c40 => ?_) (fun c40 => ?_)
      · refine S_iload_n (dc_X1_beside 27 rfl) rfl ?_
        refine S_iconst_ 3 (dc_X1_beside 28 rfl) rfl ?_
        refine S_icmp_ne 56 (dc_X1_beside 29 rfl) rfl (fun c49 => ?_) (fun c49 => ?_)
        · refine S_iconst_ 0 (dc_X1_beside 32 rfl) rfl ?_
          refine Sx.cut [true, false, false, true, true] ?_
          exact hK2 0
        · refine S_iconst_ (-1) (dc_X1_beside 30 rfl) rfl ?_
          refine S_goto 57 (dc_X1_beside 31 rfl) rfl ?_
          refine Sx.cut [true, false, false, true, true] ?_
          exact hK2 (-1)
      · refine S_iconst_ 1 (dc_X1_beside 25 rfl) rfl ?_
        refine S_goto 57 (dc_X1_beside 26 rfl) rfl ?_
        refine Sx.cut [true, false, false, true, true] ?_
        exact hK2 1
  · have hK1 : ∀ (s27_1 : Int32), Sx K cX1_beside 27 [some (.ref a0), some (.int a1), some (.int a2), none, none] [.int s27_1, .int (a1 - a1 / x5 * x5)] h (some s27_1) Q1 := hK1
    refine S_if_ne 17 (dc_X1_beside 6 rfl) rfl (fun c10 => ?_) (fun c10 => ?_)
    · refine S_iload_n (dc_X1_beside 9 rfl) rfl ?_
      refine S_iconst_ 2 (dc_X1_beside 10 rfl) rfl ?_
      refine S_icmp_ne 26 (dc_X1_beside 11 rfl) rfl (fun c19 => ?_) (fun c19 => ?_)
      · refine S_iconst_ 0 (dc_X1_beside 14 rfl) rfl ?_
        exact hK1 0
      · refine S_iconst_ (-1) (dc_X1_beside 12 rfl) rfl ?_
        refine S_goto 27 (dc_X1_beside 13 rfl) rfl ?_
        exact hK1 (-1)
    · refine S_iconst_ 1 (dc_X1_beside 7 rfl) rfl ?_
      refine S_goto 27 (dc_X1_beside 8 rfl) rfl ?_
      exact hK1 1
abbrev cX1_areInLine : ByteArray := prog_1_method_70_code
def yX1_areInLine : MethodName := ⟨"PegBands", "areInLine", "(III)Z"⟩
def tb_X1_areInLine : List (Nat × Instr × Nat) := [(0, .aload_n 0, 1), (1, .getfield 63, 3), (4, .getfield 401, 3), (7, .istore 4, 2), (9, .iload_n 1, 1), (10, .iload 4, 2), (12, .irem, 1), (13, .iload_n 1, 1), (14, .iload 4, 2), (16, .idiv, 1), (17, .iload_n 2, 1), (18, .iload 4, 2), (20, .irem, 1), (21, .iload_n 2, 1), (22, .iload 4, 2), (24, .idiv, 1), (25, .iload_n 3, 1), (26, .iload 4, 2), (28, .irem, 1), (29, .iload_n 3, 1), (30, .iload 4, 2), (32, .idiv, 1), (33, .invokestatic 177, 3), (36, .ifCond .ne 7, 3), (39, .iconst 1, 1), (40, .goto 4, 3), (43, .iconst 0, 1), (44, .ireturn, 1)]
theorem tk_X1_areInLine : ∀ q ∈ tb_X1_areInLine, decode cX1_areInLine q.1 = .ok q.2 := by decide +kernel
theorem dc_X1_areInLine (k : Nat) {pc n : Nat} {i : Instr} (h : tb_X1_areInLine[k]? = some (pc, i, n)) : decode cX1_areInLine pc = .ok (i, n) := tk_X1_areInLine (pc, i, n) (List.mem_of_getElem? h)
abbrev mX1_areInLine : e_M := (yX1_areInLine, cX1_areInLine, 5, some (.boolean), [])
theorem ok_X1_areInLine : e_mok mX1_areInLine 3 := ⟨q1180, q108, by decide +kernel, fun sig h => by cases h; rfl⟩
def f_X1_areInLine (h : e_H) (a0 : Nat) (a1 : Int32) (a2 : Int32) (a3 : Int32) : Option Int32 :=
  Option.bind (e_fA h a0 0 6) (fun x1 =>
  Option.bind (e_fI h x1 2 2) (fun x4 =>
  if x4 = 0 then none else
  if x4 = 0 then none else
  if x4 = 0 then none else
  if x4 = 0 then none else
  if x4 = 0 then none else
  if x4 = 0 then none else
  Option.bind (f_X1_turn (a1 - a1 / x4 * x4) (a1 / x4) (a2 - a2 / x4 * x4) (a2 / x4) (a3 - a3 / x4 * x4) (a3 / x4)) (fun x33 =>
  if x33 = 0 then
    some 1
  else
    some 0)))
set_option maxHeartbeats 4000000 in
set_option maxRecDepth 100000 in
theorem ct_X1_areInLine {l : Launch} {D : e_D} {B : Heap} {d : Nat} {h : e_H} {a0 : Nat} {a1 : Int32} {a2 : Int32} {a3 : Int32} {v : Int32} (hd : 2 ≤ d) (e : f_X1_areInLine h a0 a1 a2 a3 = some v) : e_Run l D B d mX1_areInLine [.ref a0, .int a1, .int a2, .int a3] h (.ok (some (.int v)), h) := by
  refine e_start [some (.ref a0), some (.int a1), some (.int a2), some (.int a3), none] (by decide) rfl rfl rfl (Nat.le_of_ble_eq_true rfl) (fun K hl0 hD0 hB0 hM hd0 hr => ?_)
  subst hl0 hD0 hB0 hd0
  have ho : (k_M K).1.cls = "PegBands" := by rw [hM]; rfl
  have hT : (k_M K).2.2.2.1 = some (.boolean) := by rw [hM]
  refine (show Sx K cX1_areInLine 0 [some (.ref a0), some (.int a1), some (.int a2), some (.int a3), none] [] h (f_X1_areInLine h a0 a1 a2 a3) (fun w => w = v) from ?_) _ e rfl
  clear e
  unfold f_X1_areInLine
  refine S_aload_n (dc_X1_areInLine 0 rfl) rfl ?_
  refine S_getA (dc_X1_areInLine 1 rfl) ho fl_X1_63_0_6 (fun _ _ => rfl) (fun x1 e1 => ?_)
  refine S_getI (dc_X1_areInLine 2 rfl) ho fl_X1_401_2_2 (fun _ _ => rfl) (fun x4 e4 => ?_)
  refine S_istore (L' := [some (.ref a0), some (.int a1), some (.int a2), some (.int a3), some (.int x4)]) (dc_X1_areInLine 3 rfl) rfl ?_
  refine S_iload_n (dc_X1_areInLine 4 rfl) rfl ?_
  refine S_iload (dc_X1_areInLine 5 rfl) rfl ?_
  refine Sx.ncond (fun c12 => ?_)
  refine S_irem (dc_X1_areInLine 6 rfl) c12 ?_
  refine S_iload_n (dc_X1_areInLine 7 rfl) rfl ?_
  refine S_iload (dc_X1_areInLine 8 rfl) rfl ?_
  refine Sx.ncond (fun c16 => ?_)
  refine S_idiv (dc_X1_areInLine 9 rfl) c16 ?_
  refine S_iload_n (dc_X1_areInLine 10 rfl) rfl ?_
  refine S_iload (dc_X1_areInLine 11 rfl) rfl ?_
  refine Sx.ncond (fun c20 => ?_)
  refine S_irem (dc_X1_areInLine 12 rfl) c20 ?_
  refine S_iload_n (dc_X1_areInLine 13 rfl) rfl ?_
  refine S_iload (dc_X1_areInLine 14 rfl) rfl ?_
  refine Sx.ncond (fun c24 => ?_)
  refine S_idiv (dc_X1_areInLine 15 rfl) c24 ?_
  refine S_iload_n (dc_X1_areInLine 16 rfl) rfl ?_
  refine S_iload (dc_X1_areInLine 17 rfl) rfl ?_
  refine Sx.ncond (fun c28 => ?_)
  refine S_irem (dc_X1_areInLine 18 rfl) c28 ?_
  refine S_iload_n (dc_X1_areInLine 19 rfl) rfl ?_
  refine S_iload (dc_X1_areInLine 20 rfl) rfl ?_
  refine Sx.ncond (fun c32 => ?_)
  refine S_idiv (dc_X1_areInLine 21 rfl) c32 ?_
  refine S_roI (d := k_d K - 1) (e_callS (As := [.int (a1 - a1 / x4 * x4), .int (a1 / x4), .int (a2 - a2 / x4 * x4), .int (a2 / x4), .int (a3 - a3 / x4 * x4), .int (a3 / x4)]) (rest := []) ok_X1_turn rfl (Nat.le_of_ble_eq_true rfl) (dc_X1_areInLine 22 rfl) ho q812 q803 rfl (Nat.le_of_ble_eq_true rfl)) (by omega) (fun _ e => ct_X1_turn (by omega) e) (fun x33 e33 => ?_)
  refine S_if_ne 43 (dc_X1_areInLine 23 rfl) rfl (fun c36 => ?_) (fun c36 => ?_)
  · refine S_iconst_ 0 (dc_X1_areInLine 26 rfl) rfl ?_
    exact S_iret (dc_X1_areInLine 27 rfl) hT rfl (fun q => by cases q; exact hr)
  · refine S_iconst_ 1 (dc_X1_areInLine 24 rfl) rfl ?_
    refine S_goto 44 (dc_X1_areInLine 25 rfl) rfl ?_
    exact S_iret (dc_X1_areInLine 27 rfl) hT rfl (fun q => by cases q; exact hr)
abbrev cX1_moved : ByteArray := prog_1_method_72_code
def yX1_moved : MethodName := ⟨"PegBands", "moved", "(II)I"⟩
def tb_X1_moved : List (Nat × Instr × Nat) := [(0, .aload_n 0, 1), (1, .iload_n 1, 1), (2, .invokevirtual 241, 3), (5, .ifCond .eq 63, 3), (8, .aload_n 0, 1), (9, .iload_n 2, 1), (10, .invokevirtual 241, 3), (13, .ifCond .eq 55, 3), (16, .aload_n 0, 1), (17, .getfield 63, 3), (20, .getfield 401, 3), (23, .aload_n 0, 1), (24, .getfield 63, 3), (27, .getfield 392, 3), (30, .imul, 1), (31, .bipush 36, 2), (33, .if_icmp .gt 35, 3), (36, .aload_n 0, 1), (37, .getfield 63, 3), (40, .getfield 248, 3), (43, .iload_n 1, 1), (44, .aaload, 1), (45, .getfield 251, 3), (48, .iconst 3, 1), (49, .if_icmp .ne 19, 3), (52, .aload_n 0, 1), (53, .getfield 63, 3), (56, .getfield 248, 3), (59, .iload_n 2, 1), (60, .aaload, 1), (61, .getfield 251, 3), (64, .iconst 3, 1), (65, .if_icmp .eq 5, 3), (68, .iconst (-1), 1), (69, .ireturn, 1), (70, .aload_n 0, 1), (71, .getfield 63, 3), (74, .getfield 248, 3), (77, .iload_n 1, 1), (78, .aaload, 1), (79, .astore_n 3, 1), (80, .aload_n 0, 1), (81, .getfield 63, 3), (84, .getfield 248, 3), (87, .iload_n 2, 1), (88, .aaload, 1), (89, .astore 4, 2), (91, .iconst 0, 1), (92, .istore 5, 2), (94, .iload 5, 2), (96, .aload_n 0, 1), (97, .getfield 128, 3), (100, .arraylength, 1), (101, .if_icmp .ge 17, 3), (104, .aload_n 0, 1), (105, .getfield 128, 3), (108, .iload 5, 2), (110, .iconst 0, 1), (111, .iastore, 1), (112, .iinc 5 1, 3), (115, .goto (-21), 3), (118, .aload_n 0, 1), (119, .iconst 0, 1), (120, .putfield 427, 3), (123, .aload_n 0, 1), (124, .aload_n 0, 1), (125, .aload_n 3, 1), (126, .iconst 0, 1), (127, .invokevirtual 430, 3), (130, .aload_n 0, 1), (131, .aload_n 3, 1), (132, .iconst 1, 1), (133, .invokevirtual 430, 3), (136, .aload_n 0, 1), (137, .aload_n 3, 1), (138, .iconst 2, 1), (139, .invokevirtual 430, 3), (142, .invokestatic 433, 3), (145, .iconst 0, 1), (146, .invokevirtual 436, 3), (149, .lconst 1, 1), (150, .aload_n 0, 1), (151, .aload 4, 2), (153, .iconst 0, 1), (154, .invokevirtual 430, 3), (157, .lshl, 1), (158, .lconst 1, 1), (159, .aload_n 0, 1), (160, .aload 4, 2), (162, .iconst 1, 1), (163, .invokevirtual 430, 3), (166, .lshl, 1), (167, .lor, 1), (168, .lconst 1, 1), (169, .aload_n 0, 1), (170, .aload 4, 2), (172, .iconst 2, 1), (173, .invokevirtual 430, 3), (176, .lshl, 1), (177, .lor, 1), (178, .lstore 5, 2), (180, .iconst 3, 1), (181, .newarray .int, 2), (183, .astore 7, 2), (185, .iconst 0, 1), (186, .istore 8, 2), (188, .iload 8, 2), (190, .aload_n 0, 1), (191, .getfield 427, 3), (194, .if_icmp .ge 198, 3), (197, .aload_n 0, 1), (198, .getfield 131, 3), (201, .iload 8, 2), (203, .iaload, 1), (204, .istore 9, 2), (206, .aload 7, 2), (208, .iconst 0, 1), (209, .iload 9, 2), (211, .bipush 36, 2), (213, .idiv, 1), (214, .bipush 36, 2), (216, .idiv, 1), (217, .iastore, 1), (218, .aload 7, 2), (220, .iconst 1, 1), (221, .iload 9, 2), (223, .bipush 36, 2), (225, .idiv, 1), (226, .bipush 36, 2), (228, .irem, 1), (229, .iastore, 1), (230, .aload 7, 2), (232, .iconst 2, 1), (233, .iload 9, 2), (235, .bipush 36, 2), (237, .irem, 1), (238, .iastore, 1), (239, .lconst 1, 1), (240, .aload 7, 2), (242, .iconst 0, 1), (243, .iaload, 1), (244, .lshl, 1), (245, .lconst 1, 1), (246, .aload 7, 2), (248, .iconst 1, 1), (249, .iaload, 1), (250, .lshl, 1), (251, .lor, 1), (252, .lconst 1, 1), (253, .aload 7, 2), (255, .iconst 2, 1), (256, .iaload, 1), (257, .lshl, 1), (258, .lor, 1), (259, .lload 5, 2), (261, .lcmp, 1), (262, .ifCond .ne 13, 3), (265, .aload_n 0, 1), (266, .getfield 128, 3), (269, .iload 9, 2), (271, .iaload, 1), (272, .iconst 1, 1), (273, .isub, 1), (274, .ireturn, 1), (275, .iconst 0, 1), (276, .istore 10, 2), (278, .iload 10, 2), (280, .iconst 3, 1), (281, .if_icmp .ge 105, 3), (284, .aload 7, 2), (286, .iload 10, 2), (288, .iaload, 1), (289, .istore 11, 2), (291, .iconst 0, 1), (292, .istore 12, 2), (294, .iload 12, 2), (296, .iconst 4, 1), (297, .if_icmp .ge 76, 3), (300, .aload 7, 2), (302, .iload 10, 2), (304, .aload_n 0, 1), (305, .iload 11, 2), (307, .iload 12, 2), (309, .invokevirtual 439, 3), (312, .iastore, 1), (313, .aload 7, 2), (315, .iload 10, 2), (317, .iaload, 1), (318, .iconst (-1), 1), (319, .if_icmp .eq 48, 3), (322, .aload_n 0, 1), (323, .aload 7, 2), (325, .iconst 0, 1), (326, .iaload, 1), (327, .aload 7, 2), (329, .iconst 1, 1), (330, .iaload, 1), (331, .aload 7, 2), (333, .iconst 2, 1), (334, .iaload, 1), (335, .invokevirtual 442, 3), (338, .ifCond .ne 29, 3), (341, .aload_n 0, 1), (342, .aload 7, 2), (344, .iconst 0, 1), (345, .iaload, 1), (346, .aload 7, 2), (348, .iconst 1, 1), (349, .iaload, 1), (350, .aload 7, 2), (352, .iconst 2, 1), (353, .iaload, 1), (354, .invokestatic 433, 3), (357, .aload_n 0, 1), (358, .getfield 128, 3), (361, .iload 9, 2), (363, .iaload, 1), (364, .invokevirtual 436, 3), (367, .iinc 12 1, 3), (370, .goto (-76), 3), (373, .aload 7, 2), (375, .iload 10, 2), (377, .iload 11, 2), (379, .iastore, 1), (380, .iinc 10 1, 3), (383, .goto (-105), 3), (386, .iinc 8 1, 3), (389, .goto (-201), 3), (392, .iconst (-1), 1), (393, .ireturn, 1)]
theorem tk_X1_moved : ∀ q ∈ tb_X1_moved, decode cX1_moved q.1 = .ok q.2 := by decide +kernel
theorem dc_X1_moved (k : Nat) {pc n : Nat} {i : Instr} (h : tb_X1_moved[k]? = some (pc, i, n)) : decode cX1_moved pc = .ok (i, n) := tk_X1_moved (pc, i, n) (List.mem_of_getElem? h)
abbrev mX1_moved : e_M := (yX1_moved, cX1_moved, 13, some (.int), [])
theorem ok_X1_moved : e_mok mX1_moved 2 := ⟨q1161, q108, by decide +kernel, fun sig h => by cases h; rfl⟩
def lp_X1_moved_94 (F : Nat) (a0 : Nat) : Nat → Int32 → e_H → Option (e_H)
  | 0, _, _ => none
  | n + 1, x5_94, h_94 =>
    Option.bind (e_fA h_94 a0 0 28) (fun x97 =>
    Option.bind (e_len h_94 x97 0) (fun l100 =>
    if (nI l100) ≤ x5_94 then
      some h_94
    else
      Option.bind (e_fA h_94 a0 0 28) (fun x105 =>
      Option.bind (e_wI h_94 x105 0 x5_94 0) (fun h111 =>
      Option.bind (some (x5_94 + 1)) (fun x112 =>
      lp_X1_moved_94 F a0 n x112 h111)))))
def lp_X1_moved_294 (F : Nat) (a0 : Nat) (x181 : Nat) (x203 : Int32) (x10_278 : Int32) (x288 : Int32) : Nat → Int32 → e_H → Option (e_H)
  | 0, _, _ => none
  | n + 1, x12_294, h_294 =>
    if 4 ≤ x12_294 then
      some h_294
    else
      Option.bind (e_is h_294 a0 0) (fun _ =>
      Option.bind (f_X1_beside h_294 a0 x288 x12_294) (fun x309 =>
      Option.bind (e_wI h_294 x181 0 x10_278 x309) (fun h312 =>
      Option.bind (e_aI h312 x181 0 x10_278) (fun x317 =>
      Option.bind (
          if x317 = (-1) then
            some h312
          else
            Option.bind (e_aI h312 x181 0 0) (fun x326 =>
            Option.bind (e_aI h312 x181 0 1) (fun x330 =>
            Option.bind (e_aI h312 x181 0 2) (fun x334 =>
            Option.bind (e_is h312 a0 0) (fun _ =>
            Option.bind (f_X1_areInLine h312 a0 x326 x330 x334) (fun x335 =>
            if x335 = 0 then
              Option.bind (e_aI h312 x181 0 0) (fun x345 =>
              Option.bind (e_aI h312 x181 0 1) (fun x349 =>
              Option.bind (e_aI h312 x181 0 2) (fun x353 =>
              Option.bind (f_X1_stateOf x345 x349 x353) (fun x354 =>
              Option.bind (e_fA h312 a0 0 28) (fun x358 =>
              Option.bind (e_aI h312 x358 0 x203) (fun x363 =>
              Option.bind (f_X1_reach h312 a0 x354 x363) (fun h364 =>
              some h364)))))))
            else
              some h312)))))
        : Option (e_H)) (fun h367_5 =>
      Option.bind (some (x12_294 + 1)) (fun x367 =>
      lp_X1_moved_294 F a0 x181 x203 x10_278 x288 n x367 h367_5))))))
def lp_X1_moved_278 (F : Nat) (a0 : Nat) (x181 : Nat) (x203 : Int32) : Nat → Int32 → e_H → Option (e_H)
  | 0, _, _ => none
  | n + 1, x10_278, h_278 =>
    if 3 ≤ x10_278 then
      some h_278
    else
      Option.bind (e_aI h_278 x181 0 x10_278) (fun x288 =>
      Option.bind (
          lp_X1_moved_294 F a0 x181 x203 x10_278 x288 F 0 h_278
        : Option (e_H)) (fun h373_4 =>
      Option.bind (e_wI h373_4 x181 0 x10_278 x288) (fun h379 =>
      Option.bind (some (x10_278 + 1)) (fun x380 =>
      lp_X1_moved_278 F a0 x181 x203 n x380 h379))))
def lp_X1_moved_188 (F : Nat) (a0 : Nat) (x178 : Int64) (x181 : Nat) : Nat → Int32 → e_H → Option (Except (Int32 × e_H) e_H)
  | 0, _, _ => none
  | n + 1, x8_188, h_188 =>
    Option.bind (e_fI h_188 a0 0 30) (fun x191 =>
    if x191 ≤ x8_188 then
      some (.ok h_188)
    else
      Option.bind (e_fA h_188 a0 0 29) (fun x198 =>
      Option.bind (e_aI h_188 x198 0 x8_188) (fun x203 =>
      Option.bind (e_wI h_188 x181 0 0 ((x203 / 36) / 36)) (fun h217 =>
      Option.bind (e_wI h217 x181 0 1 ((x203 / 36) - (x203 / 36) / 36 * 36)) (fun h229 =>
      Option.bind (e_wI h229 x181 0 2 (x203 - x203 / 36 * 36)) (fun h238 =>
      Option.bind (e_aI h238 x181 0 0) (fun x243 =>
      Option.bind (e_aI h238 x181 0 1) (fun x249 =>
      Option.bind (e_aI h238 x181 0 2) (fun x256 =>
      if (lg_cmp ((((1 : Int64) <<< (x243.toInt64 &&& 63)) ||| ((1 : Int64) <<< (x249.toInt64 &&& 63))) ||| ((1 : Int64) <<< (x256.toInt64 &&& 63))) x178) = 0 then
        Option.bind (e_fA h238 a0 0 28) (fun x266 =>
        Option.bind (e_aI h238 x266 0 x203) (fun x271 =>
        some (.error ((x271 - 1), h238))))
      else
        Option.bind (
            lp_X1_moved_278 F a0 x181 x203 F 0 h238
          : Option (e_H)) (fun h386_3 =>
        Option.bind (some (x8_188 + 1)) (fun x386 =>
        lp_X1_moved_188 F a0 x178 x181 n x386 h386_3)))))))))))
def f_X1_moved (F : Nat) (h : e_H) (a0 : Nat) (a1 : Int32) (a2 : Int32) : Option (Int32 × e_H) :=
  Option.bind (e_is h a0 0) (fun _ =>
  Option.bind (f_X1_isBand h a0 a1) (fun x2 =>
  if x2 = 0 then
    some ((-1), h)
  else
    Option.bind (f_X1_isBand h a0 a2) (fun x10 =>
    if x10 = 0 then
      some ((-1), h)
    else
      Option.bind (e_fA h a0 0 6) (fun x17 =>
      Option.bind (e_fI h x17 2 2) (fun x20 =>
      Option.bind (e_fA h a0 0 6) (fun x24 =>
      Option.bind (e_fI h x24 2 3) (fun x27 =>
      if 36 < (x20 * x27) then
        some ((-1), h)
      else
        Option.bind (e_fA h a0 0 6) (fun x37 =>
        Option.bind (e_fA h x37 2 0) (fun x40 =>
        Option.bind (e_aA h x40 4 a1) (fun x44 =>
        Option.bind (e_fI h x44 6 2) (fun x45 =>
        if x45 = 3 then
          Option.bind (e_fA h a0 0 6) (fun x53 =>
          Option.bind (e_fA h x53 2 0) (fun x56 =>
          Option.bind (e_aA h x56 4 a2) (fun x60 =>
          Option.bind (e_fI h x60 6 2) (fun x61 =>
          if x61 = 3 then
            Option.bind (e_fA h a0 0 6) (fun x71 =>
            Option.bind (e_fA h x71 2 0) (fun x74 =>
            Option.bind (e_aA h x74 4 a1) (fun x78 =>
            Option.bind (e_fA h a0 0 6) (fun x81 =>
            Option.bind (e_fA h x81 2 0) (fun x84 =>
            Option.bind (e_aA h x84 4 a2) (fun x88 =>
            Option.bind (
                lp_X1_moved_94 F a0 F 0 h
              : Option (e_H)) (fun h118_1 =>
            Option.bind (e_gI h118_1 a0 0 30 0) (fun h120 =>
            Option.bind (e_is h120 a0 0) (fun _ =>
            Option.bind (f_X1_spot h120 a0 x78 0) (fun x127 =>
            Option.bind (f_X1_spot h120 a0 x78 1) (fun x133 =>
            Option.bind (f_X1_spot h120 a0 x78 2) (fun x139 =>
            Option.bind (f_X1_stateOf x127 x133 x139) (fun x142 =>
            Option.bind (f_X1_reach h120 a0 x142 0) (fun h146 =>
            Option.bind (e_is h146 a0 0) (fun _ =>
            Option.bind (f_X1_spot h146 a0 x88 0) (fun x154 =>
            Option.bind (f_X1_spot h146 a0 x88 1) (fun x163 =>
            Option.bind (f_X1_spot h146 a0 x88 2) (fun x173 =>
            Option.bind (some ((((1 : Int64) <<< (x154.toInt64 &&& 63)) ||| ((1 : Int64) <<< (x163.toInt64 &&& 63))) ||| ((1 : Int64) <<< (x173.toInt64 &&& 63)))) (fun x178 =>
            Option.bind (e_nat 3) (fun l181 => e_mkb h146 (.inr (0, l181)) l181 (fun x181 h181 =>
            e_bE (
                lp_X1_moved_188 F a0 x178 x181 F 0 h181
              : Option (Except (Int32 × e_H) e_H)) (fun h392_2 =>
            some ((-1), h392_2)))))))))))))))))))))))
          else
            some ((-1), h)))))
        else
          some ((-1), h))))))))))))
set_option maxHeartbeats 4000000 in
set_option maxRecDepth 100000 in
theorem ct_X1_moved {l : Launch} {D : e_D} {B : Heap} {F : Nat} {d : Nat} {h : e_H} {a0 : Nat} {a1 : Int32} {a2 : Int32} {v : Int32} {h1 : e_H} (hd : 5 ≤ d) (e : f_X1_moved F h a0 a1 a2 = some (v, h1)) : e_Run l D B d mX1_moved [.ref a0, .int a1, .int a2] h (.ok (some (.int v)), h1) := by
  refine e_start [some (.ref a0), some (.int a1), some (.int a2), none, none, none, none, none, none, none, none, none, none] (by decide) rfl rfl rfl (Nat.le_of_ble_eq_true rfl) (fun K hl0 hD0 hB0 hM hd0 hr => ?_)
  subst hl0 hD0 hB0 hd0
  have ho : (k_M K).1.cls = "PegBands" := by rw [hM]; rfl
  have hT : (k_M K).2.2.2.1 = some (.int) := by rw [hM]
  refine (show Sx K cX1_moved 0 [some (.ref a0), some (.int a1), some (.int a2), none, none, none, none, none, none, none, none, none, none] [] h (f_X1_moved F h a0 a1 a2) (fun w => w = (v, h1)) from ?_) _ e rfl
  clear e
  unfold f_X1_moved
  refine S_aload_n (dc_X1_moved 0 rfl) rfl ?_
  refine S_iload_n (dc_X1_moved 1 rfl) rfl ?_
  refine Sx.ask (fun _ i2 => ?_)
  refine S_roI (d := k_d K - 1) (e_callV (b := a0) (As := [.int a1]) (rest := []) ok_X1_isBand rfl (Nat.le_of_ble_eq_true rfl) (dc_X1_moved 2 rfl) ho q859 q861 (show e_cl[0]? = some (RX1, TX1, 37) from rfl) (e_sel.of qs7) (e_is_of i2) rfl (Nat.le_of_ble_eq_true rfl)) (by omega) (fun _ e => ct_X1_isBand (by omega) e) (fun x2 e2 => ?_)
  refine S_if_eq 68 (dc_X1_moved 3 rfl) rfl (fun c5 => ?_) (fun c5 => ?_)
  · refine S_iconst_ (-1) (dc_X1_moved 33 rfl) rfl ?_
    exact S_iret (dc_X1_moved 34 rfl) hT rfl (e_rqI hr)
  · refine S_aload_n (dc_X1_moved 4 rfl) rfl ?_
    refine S_iload_n (dc_X1_moved 5 rfl) rfl ?_
    refine S_roI (d := k_d K - 1) (e_callV (b := a0) (As := [.int a2]) (rest := []) ok_X1_isBand rfl (Nat.le_of_ble_eq_true rfl) (dc_X1_moved 6 rfl) ho q859 q861 (show e_cl[0]? = some (RX1, TX1, 37) from rfl) (e_sel.of qs7) (e_is_of i2) rfl (Nat.le_of_ble_eq_true rfl)) (by omega) (fun _ e => ct_X1_isBand (by omega) e) (fun x10 e10 => ?_)
    refine S_if_eq 68 (dc_X1_moved 7 rfl) rfl (fun c13 => ?_) (fun c13 => ?_)
    · refine S_iconst_ (-1) (dc_X1_moved 33 rfl) rfl ?_
      exact S_iret (dc_X1_moved 34 rfl) hT rfl (e_rqI hr)
    · refine S_aload_n (dc_X1_moved 8 rfl) rfl ?_
      refine S_getA (dc_X1_moved 9 rfl) ho fl_X1_63_0_6 (fun _ _ => rfl) (fun x17 e17 => ?_)
      refine S_getI (dc_X1_moved 10 rfl) ho fl_X1_401_2_2 (fun _ _ => rfl) (fun x20 e20 => ?_)
      refine S_aload_n (dc_X1_moved 11 rfl) rfl ?_
      refine S_getA (dc_X1_moved 12 rfl) ho fl_X1_63_0_6 (fun _ _ => rfl) (fun x24 e24 => ?_)
      refine S_getI (dc_X1_moved 13 rfl) ho fl_X1_392_2_3 (fun _ _ => rfl) (fun x27 e27 => ?_)
      refine S_imul (dc_X1_moved 14 rfl) ?_
      refine S_bipush_ 36 (dc_X1_moved 15 rfl) rfl ?_
      refine S_icmp_gt 68 (dc_X1_moved 16 rfl) rfl (fun c33 => ?_) (fun c33 => ?_)
      · refine S_iconst_ (-1) (dc_X1_moved 33 rfl) rfl ?_
        exact S_iret (dc_X1_moved 34 rfl) hT rfl (e_rqI hr)
      · refine S_aload_n (dc_X1_moved 17 rfl) rfl ?_
        refine S_getA (dc_X1_moved 18 rfl) ho fl_X1_63_0_6 (fun _ _ => rfl) (fun x37 e37 => ?_)
        refine S_getA (dc_X1_moved 19 rfl) ho fl_X1_248_2_0 (fun _ _ => rfl) (fun x40 e40 => ?_)
        refine S_iload_n (dc_X1_moved 20 rfl) rfl ?_
        refine S_aaldA4 (dc_X1_moved 21 rfl) (fun x44 e44 => ?_)
        refine S_getI (dc_X1_moved 22 rfl) ho fl_X1_251_6_2 (fun _ _ => rfl) (fun x45 e45 => ?_)
        refine S_iconst_ 3 (dc_X1_moved 23 rfl) rfl ?_
        refine S_icmp_ne 68 (dc_X1_moved 24 rfl) rfl (fun c49 => ?_) (fun c49 => ?_)
        · refine S_iconst_ (-1) (dc_X1_moved 33 rfl) rfl ?_
          exact S_iret (dc_X1_moved 34 rfl) hT rfl (e_rqI hr)
        · refine S_aload_n (dc_X1_moved 25 rfl) rfl ?_
          refine S_getA (dc_X1_moved 26 rfl) ho fl_X1_63_0_6 (fun _ _ => rfl) (fun x53 e53 => ?_)
          refine S_getA (dc_X1_moved 27 rfl) ho fl_X1_248_2_0 (fun _ _ => rfl) (fun x56 e56 => ?_)
          refine S_iload_n (dc_X1_moved 28 rfl) rfl ?_
          refine S_aaldA4 (dc_X1_moved 29 rfl) (fun x60 e60 => ?_)
          refine S_getI (dc_X1_moved 30 rfl) ho fl_X1_251_6_2 (fun _ _ => rfl) (fun x61 e61 => ?_)
          refine S_iconst_ 3 (dc_X1_moved 31 rfl) rfl ?_
          refine S_icmp_eq 70 (dc_X1_moved 32 rfl) rfl (fun c65 => ?_) (fun c65 => ?_)
          · refine S_aload_n (dc_X1_moved 35 rfl) rfl ?_
            refine S_getA (dc_X1_moved 36 rfl) ho fl_X1_63_0_6 (fun _ _ => rfl) (fun x71 e71 => ?_)
            refine S_getA (dc_X1_moved 37 rfl) ho fl_X1_248_2_0 (fun _ _ => rfl) (fun x74 e74 => ?_)
            refine S_iload_n (dc_X1_moved 38 rfl) rfl ?_
            refine S_aaldA4 (dc_X1_moved 39 rfl) (fun x78 e78 => ?_)
            refine S_astore_n (L' := [some (.ref a0), some (.int a1), some (.int a2), some (.ref x78), none, none, none, none, none, none, none, none, none]) (dc_X1_moved 40 rfl) rfl ?_
            refine S_aload_n (dc_X1_moved 41 rfl) rfl ?_
            refine S_getA (dc_X1_moved 42 rfl) ho fl_X1_63_0_6 (fun _ _ => rfl) (fun x81 e81 => ?_)
            refine S_getA (dc_X1_moved 43 rfl) ho fl_X1_248_2_0 (fun _ _ => rfl) (fun x84 e84 => ?_)
            refine S_iload_n (dc_X1_moved 44 rfl) rfl ?_
            refine S_aaldA4 (dc_X1_moved 45 rfl) (fun x88 e88 => ?_)
            refine S_astore (L' := [some (.ref a0), some (.int a1), some (.int a2), some (.ref x78), some (.ref x88), none, none, none, none, none, none, none, none]) (dc_X1_moved 46 rfl) rfl ?_
            refine S_iconst_ 0 (dc_X1_moved 47 rfl) rfl ?_
            refine S_istore (L' := [some (.ref a0), some (.int a1), some (.int a2), some (.ref x78), some (.ref x88), some (.int 0), none, none, none, none, none, none, none]) (dc_X1_moved 48 rfl) rfl ?_
            refine Sx.regK1 (pc2 := 118) (L2 := fun (h118_1 : e_H) => [some (.ref a0), none, none, some (.ref x78), some (.ref x88), none, none, none, none, none, none, none, none]) (st2 := fun (h118_1 : e_H) => []) (h2 := fun (h118_1 : e_H) => h118_1) ?_ (fun Q1 hK1 => ?_)
            · intro h118_1
              show Sx K cX1_moved 118 [some (.ref a0), none, none, some (.ref x78), some (.ref x88), none, none, none, none, none, none, none, none] [] h118_1 _ _
              refine S_aload_n (dc_X1_moved 61 rfl) rfl ?_
              refine S_iconst_ 0 (dc_X1_moved 62 rfl) rfl ?_
              refine S_putI (dc_X1_moved 63 rfl) ho fl_X1_427_0_30 (fun _ _ => rfl) (Or.inl rfl) rfl rfl (fun h120 e120 => ?_)
              refine S_aload_n (dc_X1_moved 64 rfl) rfl ?_
              refine S_aload_n (dc_X1_moved 65 rfl) rfl ?_
              refine S_aload_n (dc_X1_moved 66 rfl) rfl ?_
              refine S_iconst_ 0 (dc_X1_moved 67 rfl) rfl ?_
              refine Sx.ask (fun _ i127 => ?_)
              refine S_roI (d := k_d K - 1) (e_callV (b := a0) (As := [.ref x78, .int 0]) (rest := [.ref a0]) ok_X1_spot rfl (Nat.le_of_ble_eq_true rfl) (dc_X1_moved 68 rfl) ho q1162 q1164 (show e_cl[0]? = some (RX1, TX1, 37) from rfl) (e_sel.of qs24) (e_is_of i127) rfl (Nat.le_of_ble_eq_true rfl)) (by omega) (fun _ e => ct_X1_spot (by omega) e) (fun x127 e127 => ?_)
              refine S_aload_n (dc_X1_moved 69 rfl) rfl ?_
              refine S_aload_n (dc_X1_moved 70 rfl) rfl ?_
              refine S_iconst_ 1 (dc_X1_moved 71 rfl) rfl ?_
              refine S_roI (d := k_d K - 1) (e_callV (b := a0) (As := [.ref x78, .int 1]) (rest := [.int x127, .ref a0]) ok_X1_spot rfl (Nat.le_of_ble_eq_true rfl) (dc_X1_moved 72 rfl) ho q1162 q1164 (show e_cl[0]? = some (RX1, TX1, 37) from rfl) (e_sel.of qs24) (e_is_of i127) rfl (Nat.le_of_ble_eq_true rfl)) (by omega) (fun _ e => ct_X1_spot (by omega) e) (fun x133 e133 => ?_)
              refine S_aload_n (dc_X1_moved 73 rfl) rfl ?_
              refine S_aload_n (dc_X1_moved 74 rfl) rfl ?_
              refine S_iconst_ 2 (dc_X1_moved 75 rfl) rfl ?_
              refine S_roI (d := k_d K - 1) (e_callV (b := a0) (As := [.ref x78, .int 2]) (rest := [.int x133, .int x127, .ref a0]) ok_X1_spot rfl (Nat.le_of_ble_eq_true rfl) (dc_X1_moved 76 rfl) ho q1162 q1164 (show e_cl[0]? = some (RX1, TX1, 37) from rfl) (e_sel.of qs24) (e_is_of i127) rfl (Nat.le_of_ble_eq_true rfl)) (by omega) (fun _ e => ct_X1_spot (by omega) e) (fun x139 e139 => ?_)
              refine S_roI (d := k_d K - 1) (e_callS (As := [.int x127, .int x133, .int x139]) (rest := [.ref a0]) ok_X1_stateOf rfl (Nat.le_of_ble_eq_true rfl) (dc_X1_moved 77 rfl) ho q1166 q1167 rfl (Nat.le_of_ble_eq_true rfl)) (by omega) (fun _ e => ct_X1_stateOf (by omega) e) (fun x142 e142 => ?_)
              refine S_iconst_ 0 (dc_X1_moved 78 rfl) rfl ?_
              refine S_rwV (d := k_d K - 1) (e_callV (b := a0) (As := [.int x142, .int 0]) (rest := []) ok_X1_reach rfl (Nat.le_of_ble_eq_true rfl) (dc_X1_moved 79 rfl) ho q1169 q1171 (show e_cl[0]? = some (RX1, TX1, 37) from rfl) (e_sel.of qs25) (e_is_of i127) rfl (Nat.le_of_ble_eq_true rfl)) (by omega) (fun _ e => ct_X1_reach (by omega) e) (fun h146 e146 => ?_)
              refine S_lconst_ 1 (dc_X1_moved 80 rfl) rfl ?_
              refine S_aload_n (dc_X1_moved 81 rfl) rfl ?_
              refine S_aload (dc_X1_moved 82 rfl) rfl ?_
              refine S_iconst_ 0 (dc_X1_moved 83 rfl) rfl ?_
              refine Sx.ask (fun _ i154 => ?_)
              refine S_roI (d := k_d K - 1) (e_callV (b := a0) (As := [.ref x88, .int 0]) (rest := [.long 1]) ok_X1_spot rfl (Nat.le_of_ble_eq_true rfl) (dc_X1_moved 84 rfl) ho q1162 q1164 (show e_cl[0]? = some (RX1, TX1, 37) from rfl) (e_sel.of qs24) (e_is_of i154) rfl (Nat.le_of_ble_eq_true rfl)) (by omega) (fun _ e => ct_X1_spot (by omega) e) (fun x154 e154 => ?_)
              refine S_lshl (dc_X1_moved 85 rfl) ?_
              refine S_lconst_ 1 (dc_X1_moved 86 rfl) rfl ?_
              refine S_aload_n (dc_X1_moved 87 rfl) rfl ?_
              refine S_aload (dc_X1_moved 88 rfl) rfl ?_
              refine S_iconst_ 1 (dc_X1_moved 89 rfl) rfl ?_
              refine S_roI (d := k_d K - 1) (e_callV (b := a0) (As := [.ref x88, .int 1]) (rest := [.long 1, .long ((1 : Int64) <<< (x154.toInt64 &&& 63))]) ok_X1_spot rfl (Nat.le_of_ble_eq_true rfl) (dc_X1_moved 90 rfl) ho q1162 q1164 (show e_cl[0]? = some (RX1, TX1, 37) from rfl) (e_sel.of qs24) (e_is_of i154) rfl (Nat.le_of_ble_eq_true rfl)) (by omega) (fun _ e => ct_X1_spot (by omega) e) (fun x163 e163 => ?_)
              refine S_lshl (dc_X1_moved 91 rfl) ?_
              refine S_lor (dc_X1_moved 92 rfl) ?_
              refine S_lconst_ 1 (dc_X1_moved 93 rfl) rfl ?_
              refine S_aload_n (dc_X1_moved 94 rfl) rfl ?_
              refine S_aload (dc_X1_moved 95 rfl) rfl ?_
              refine S_iconst_ 2 (dc_X1_moved 96 rfl) rfl ?_
              refine S_roI (d := k_d K - 1) (e_callV (b := a0) (As := [.ref x88, .int 2]) (rest := [.long 1, .long (((1 : Int64) <<< (x154.toInt64 &&& 63)) ||| ((1 : Int64) <<< (x163.toInt64 &&& 63)))]) ok_X1_spot rfl (Nat.le_of_ble_eq_true rfl) (dc_X1_moved 97 rfl) ho q1162 q1164 (show e_cl[0]? = some (RX1, TX1, 37) from rfl) (e_sel.of qs24) (e_is_of i154) rfl (Nat.le_of_ble_eq_true rfl)) (by omega) (fun _ e => ct_X1_spot (by omega) e) (fun x173 e173 => ?_)
              refine S_lshl (dc_X1_moved 98 rfl) ?_
              refine S_lor (dc_X1_moved 99 rfl) ?_
              refine Sx.nameJ (fun x178 n178 => ?_)
              refine S_lstore (L' := [some (.ref a0), none, none, some (.ref x78), some (.ref x88), some (.long x178), none, none, none, none, none, none, none]) (dc_X1_moved 100 rfl) rfl ?_
              refine S_iconst_ 3 (dc_X1_moved 101 rfl) rfl ?_
              refine S_newaB (t := 0) (dc_X1_moved 102 rfl) (by decide) rfl q311 (fun l181 x181 h181 v181 u181 w181 => ?_)
              refine S_astore (L' := [some (.ref a0), none, none, some (.ref x78), some (.ref x88), some (.long x178), none, some (.ref x181), none, none, none, none, none]) (dc_X1_moved 103 rfl) rfl ?_
              refine S_iconst_ 0 (dc_X1_moved 104 rfl) rfl ?_
              refine S_istore (L' := [some (.ref a0), none, none, some (.ref x78), some (.ref x88), some (.long x178), none, some (.ref x181), some (.int 0), none, none, none, none]) (dc_X1_moved 105 rfl) rfl ?_
              refine Sx.regKE1 (pc2 := 392) (L2 := fun (h392_2 : e_H) => [none, none, none, none, none, none, none, none, none, none, none, none, none]) (st2 := fun (h392_2 : e_H) => []) (h2 := fun (h392_2 : e_H) => h392_2) ?_ (fun Q2 hK2 hE2 => ?_)
              · intro h392_2
                show Sx K cX1_moved 392 [none, none, none, none, none, none, none, none, none, none, none, none, none] [] h392_2 _ _
                refine S_iconst_ (-1) (dc_X1_moved 228 rfl) rfl ?_
                exact S_iret (dc_X1_moved 229 rfl) hT rfl (e_rqI hr)
              · have hK2 : ∀ (h392_2 : e_H), Sx K cX1_moved 392 [none, none, none, none, none, none, none, none, none, none, none, none, none] [] h392_2 (some (.ok h392_2)) Q2 := hK2
                have ih2 : ∀ (n : Nat) (x8_188 : Int32) (h_188 : e_H), Sx K cX1_moved 188 [some (.ref a0), none, none, none, none, some (.long x178), none, some (.ref x181), some (.int x8_188), none, none, none, none] [] h_188 (lp_X1_moved_188 F a0 x178 x181 n x8_188 h_188) Q2 := by
                  intro n
                  induction n with
                  | zero => intro x8_188 h_188; exact Sx.none
                  | succ n ih2 =>
                    intro x8_188 h_188
                    rw [lp_X1_moved_188.eq_2]
                    refine S_iload (dc_X1_moved 106 rfl) rfl ?_
                    refine S_aload_n (dc_X1_moved 107 rfl) rfl ?_
                    refine S_getI (dc_X1_moved 108 rfl) ho fl_X1_427_0_30 (fun _ _ => rfl) (fun x191 e191 => ?_)
                    refine S_icmp_ge 392 (dc_X1_moved 109 rfl) rfl (fun c194 => ?_) (fun c194 => ?_)
                    · refine Sx.cut [false, true, true, true, true, false, true, false, false, true, true, true, true] ?_
                      exact hK2 h_188
                    · refine S_aload_n (dc_X1_moved 110 rfl) rfl ?_
                      refine S_getA (dc_X1_moved 111 rfl) ho fl_X1_131_0_29 (fun _ _ => rfl) (fun x198 e198 => ?_)
                      refine S_iload (dc_X1_moved 112 rfl) rfl ?_
                      refine S_iald (dc_X1_moved 113 rfl) (fun x203 e203 => ?_)
                      refine S_istore (L' := [some (.ref a0), none, none, none, none, some (.long x178), none, some (.ref x181), some (.int x8_188), some (.int x203), none, none, none]) (dc_X1_moved 114 rfl) rfl ?_
                      refine S_aload (dc_X1_moved 115 rfl) rfl ?_
                      refine S_iconst_ 0 (dc_X1_moved 116 rfl) rfl ?_
                      refine S_iload (dc_X1_moved 117 rfl) rfl ?_
                      refine S_bipush_ 36 (dc_X1_moved 118 rfl) rfl ?_
                      refine S_idiv (dc_X1_moved 119 rfl) (by decide) ?_
                      refine S_bipush_ 36 (dc_X1_moved 120 rfl) rfl ?_
                      refine S_idiv (dc_X1_moved 121 rfl) (by decide) ?_
                      refine S_iast (dc_X1_moved 122 rfl) (fun h217 e217 => ?_)
                      refine S_aload (dc_X1_moved 123 rfl) rfl ?_
                      refine S_iconst_ 1 (dc_X1_moved 124 rfl) rfl ?_
                      refine S_iload (dc_X1_moved 125 rfl) rfl ?_
                      refine S_bipush_ 36 (dc_X1_moved 126 rfl) rfl ?_
                      refine S_idiv (dc_X1_moved 127 rfl) (by decide) ?_
                      refine S_bipush_ 36 (dc_X1_moved 128 rfl) rfl ?_
                      refine S_irem (dc_X1_moved 129 rfl) (by decide) ?_
                      refine S_iast (dc_X1_moved 130 rfl) (fun h229 e229 => ?_)
                      refine S_aload (dc_X1_moved 131 rfl) rfl ?_
                      refine S_iconst_ 2 (dc_X1_moved 132 rfl) rfl ?_
                      refine S_iload (dc_X1_moved 133 rfl) rfl ?_
                      refine S_bipush_ 36 (dc_X1_moved 134 rfl) rfl ?_
                      refine S_irem (dc_X1_moved 135 rfl) (by decide) ?_
                      refine S_iast (dc_X1_moved 136 rfl) (fun h238 e238 => ?_)
                      refine S_lconst_ 1 (dc_X1_moved 137 rfl) rfl ?_
                      refine S_aload (dc_X1_moved 138 rfl) rfl ?_
                      refine S_iconst_ 0 (dc_X1_moved 139 rfl) rfl ?_
                      refine S_iald (dc_X1_moved 140 rfl) (fun x243 e243 => ?_)
                      refine S_lshl (dc_X1_moved 141 rfl) ?_
                      refine S_lconst_ 1 (dc_X1_moved 142 rfl) rfl ?_
                      refine S_aload (dc_X1_moved 143 rfl) rfl ?_
                      refine S_iconst_ 1 (dc_X1_moved 144 rfl) rfl ?_
                      refine S_iald (dc_X1_moved 145 rfl) (fun x249 e249 => ?_)
                      refine S_lshl (dc_X1_moved 146 rfl) ?_
                      refine S_lor (dc_X1_moved 147 rfl) ?_
                      refine S_lconst_ 1 (dc_X1_moved 148 rfl) rfl ?_
                      refine S_aload (dc_X1_moved 149 rfl) rfl ?_
                      refine S_iconst_ 2 (dc_X1_moved 150 rfl) rfl ?_
                      refine S_iald (dc_X1_moved 151 rfl) (fun x256 e256 => ?_)
                      refine S_lshl (dc_X1_moved 152 rfl) ?_
                      refine S_lor (dc_X1_moved 153 rfl) ?_
                      refine S_lload (dc_X1_moved 154 rfl) rfl ?_
                      refine S_lcmp (dc_X1_moved 155 rfl) ?_
                      refine S_if_ne 275 (dc_X1_moved 156 rfl) rfl (fun c262 => ?_) (fun c262 => ?_)
                      · refine S_iconst_ 0 (dc_X1_moved 164 rfl) rfl ?_
                        refine S_istore (L' := [some (.ref a0), none, none, none, none, some (.long x178), none, some (.ref x181), some (.int x8_188), some (.int x203), some (.int 0), none, none]) (dc_X1_moved 165 rfl) rfl ?_
                        refine Sx.regK1 (pc2 := 386) (L2 := fun (h386_3 : e_H) => [some (.ref a0), none, none, none, none, some (.long x178), none, some (.ref x181), some (.int x8_188), none, none, none, none]) (st2 := fun (h386_3 : e_H) => []) (h2 := fun (h386_3 : e_H) => h386_3) ?_ (fun Q3 hK3 => ?_)
                        · intro h386_3
                          show Sx K cX1_moved 386 [some (.ref a0), none, none, none, none, some (.long x178), none, some (.ref x181), some (.int x8_188), none, none, none, none] [] h386_3 _ _
                          refine S_iincN 1 (L' := fun x386 => [some (.ref a0), none, none, none, none, some (.long x178), none, some (.ref x181), some (.int x386), none, none, none, none]) (dc_X1_moved 226 rfl) rfl rfl (fun _ => rfl) (fun x386 n386 => ?_)
                          refine S_goto 188 (dc_X1_moved 227 rfl) rfl ?_
                          exact ih2 x386 h386_3
                        · have hK3 : ∀ (h386_3 : e_H), Sx K cX1_moved 386 [some (.ref a0), none, none, none, none, some (.long x178), none, some (.ref x181), some (.int x8_188), none, none, none, none] [] h386_3 (some h386_3) Q3 := hK3
                          have ih3 : ∀ (n : Nat) (x10_278 : Int32) (h_278 : e_H), Sx K cX1_moved 278 [some (.ref a0), none, none, none, none, some (.long x178), none, some (.ref x181), some (.int x8_188), some (.int x203), some (.int x10_278), none, none] [] h_278 (lp_X1_moved_278 F a0 x181 x203 n x10_278 h_278) Q3 := by
                            intro n
                            induction n with
                            | zero => intro x10_278 h_278; exact Sx.none
                            | succ n ih3 =>
                              intro x10_278 h_278
                              rw [lp_X1_moved_278.eq_2]
                              refine S_iload (dc_X1_moved 166 rfl) rfl ?_
                              refine S_iconst_ 3 (dc_X1_moved 167 rfl) rfl ?_
                              refine S_icmp_ge 386 (dc_X1_moved 168 rfl) rfl (fun c281 => ?_) (fun c281 => ?_)
                              · refine Sx.cut [true, true, true, true, true, true, true, true, true, false, false, true, true] ?_
                                exact hK3 h_278
                              · refine S_aload (dc_X1_moved 169 rfl) rfl ?_
                                refine S_iload (dc_X1_moved 170 rfl) rfl ?_
                                refine S_iald (dc_X1_moved 171 rfl) (fun x288 e288 => ?_)
                                refine S_istore (L' := [some (.ref a0), none, none, none, none, some (.long x178), none, some (.ref x181), some (.int x8_188), some (.int x203), some (.int x10_278), some (.int x288), none]) (dc_X1_moved 172 rfl) rfl ?_
                                refine S_iconst_ 0 (dc_X1_moved 173 rfl) rfl ?_
                                refine S_istore (L' := [some (.ref a0), none, none, none, none, some (.long x178), none, some (.ref x181), some (.int x8_188), some (.int x203), some (.int x10_278), some (.int x288), some (.int 0)]) (dc_X1_moved 174 rfl) rfl ?_
                                refine Sx.regK1 (pc2 := 373) (L2 := fun (h373_4 : e_H) => [some (.ref a0), none, none, none, none, some (.long x178), none, some (.ref x181), some (.int x8_188), some (.int x203), some (.int x10_278), some (.int x288), none]) (st2 := fun (h373_4 : e_H) => []) (h2 := fun (h373_4 : e_H) => h373_4) ?_ (fun Q4 hK4 => ?_)
                                · intro h373_4
                                  show Sx K cX1_moved 373 [some (.ref a0), none, none, none, none, some (.long x178), none, some (.ref x181), some (.int x8_188), some (.int x203), some (.int x10_278), some (.int x288), none] [] h373_4 _ _
                                  refine S_aload (dc_X1_moved 220 rfl) rfl ?_
                                  refine S_iload (dc_X1_moved 221 rfl) rfl ?_
                                  refine S_iload (dc_X1_moved 222 rfl) rfl ?_
                                  refine S_iast (dc_X1_moved 223 rfl) (fun h379 e379 => ?_)
                                  refine S_iincN 1 (L' := fun x380 => [some (.ref a0), none, none, none, none, some (.long x178), none, some (.ref x181), some (.int x8_188), some (.int x203), some (.int x380), some (.int x288), none]) (dc_X1_moved 224 rfl) rfl rfl (fun _ => rfl) (fun x380 n380 => ?_)
                                  refine S_goto 278 (dc_X1_moved 225 rfl) rfl ?_
                                  refine Sx.cut [true, true, true, true, true, true, true, true, true, true, true, false, true] ?_
                                  exact ih3 x380 h379
                                · have hK4 : ∀ (h373_4 : e_H), Sx K cX1_moved 373 [some (.ref a0), none, none, none, none, some (.long x178), none, some (.ref x181), some (.int x8_188), some (.int x203), some (.int x10_278), some (.int x288), none] [] h373_4 (some h373_4) Q4 := hK4
                                  have ih4 : ∀ (n : Nat) (x12_294 : Int32) (h_294 : e_H), Sx K cX1_moved 294 [some (.ref a0), none, none, none, none, some (.long x178), none, some (.ref x181), some (.int x8_188), some (.int x203), some (.int x10_278), some (.int x288), some (.int x12_294)] [] h_294 (lp_X1_moved_294 F a0 x181 x203 x10_278 x288 n x12_294 h_294) Q4 := by
                                    intro n
                                    induction n with
                                    | zero => intro x12_294 h_294; exact Sx.none
                                    | succ n ih4 =>
                                      intro x12_294 h_294
                                      rw [lp_X1_moved_294.eq_2]
                                      refine S_iload (dc_X1_moved 175 rfl) rfl ?_
                                      refine S_iconst_ 4 (dc_X1_moved 176 rfl) rfl ?_
                                      refine S_icmp_ge 373 (dc_X1_moved 177 rfl) rfl (fun c297 => ?_) (fun c297 => ?_)
                                      · refine Sx.cut [true, true, true, true, true, true, true, true, true, true, true, true, false] ?_
                                        exact hK4 h_294
                                      · refine S_aload (dc_X1_moved 178 rfl) rfl ?_
                                        refine S_iload (dc_X1_moved 179 rfl) rfl ?_
                                        refine S_aload_n (dc_X1_moved 180 rfl) rfl ?_
                                        refine S_iload (dc_X1_moved 181 rfl) rfl ?_
                                        refine S_iload (dc_X1_moved 182 rfl) rfl ?_
                                        refine Sx.ask (fun _ i309 => ?_)
                                        refine S_roI (d := k_d K - 1) (e_callV (b := a0) (As := [.int x288, .int x12_294]) (rest := [.int x10_278, .ref x181]) ok_X1_beside rfl (Nat.le_of_ble_eq_true rfl) (dc_X1_moved 183 rfl) ho q1173 q1175 (show e_cl[0]? = some (RX1, TX1, 37) from rfl) (e_sel.of qs26) (e_is_of i309) rfl (Nat.le_of_ble_eq_true rfl)) (by omega) (fun _ e => ct_X1_beside (by omega) e) (fun x309 e309 => ?_)
                                        refine S_iast (dc_X1_moved 184 rfl) (fun h312 e312 => ?_)
                                        refine S_aload (dc_X1_moved 185 rfl) rfl ?_
                                        refine S_iload (dc_X1_moved 186 rfl) rfl ?_
                                        refine S_iald (dc_X1_moved 187 rfl) (fun x317 e317 => ?_)
                                        refine S_iconst_ (-1) (dc_X1_moved 188 rfl) rfl ?_
                                        refine Sx.regK1 (pc2 := 367) (L2 := fun (h367_5 : e_H) => [some (.ref a0), none, none, none, none, some (.long x178), none, some (.ref x181), some (.int x8_188), some (.int x203), some (.int x10_278), some (.int x288), some (.int x12_294)]) (st2 := fun (h367_5 : e_H) => []) (h2 := fun (h367_5 : e_H) => h367_5) ?_ (fun Q5 hK5 => ?_)
                                        · intro h367_5
                                          show Sx K cX1_moved 367 [some (.ref a0), none, none, none, none, some (.long x178), none, some (.ref x181), some (.int x8_188), some (.int x203), some (.int x10_278), some (.int x288), some (.int x12_294)] [] h367_5 _ _
                                          refine S_iincN 1 (L' := fun x367 => [some (.ref a0), none, none, none, none, some (.long x178), none, some (.ref x181), some (.int x8_188), some (.int x203), some (.int x10_278), some (.int x288), some (.int x367)]) (dc_X1_moved 218 rfl) rfl rfl (fun _ => rfl) (fun x367 n367 => ?_)
                                          refine S_goto 294 (dc_X1_moved 219 rfl) rfl ?_
                                          exact ih4 x367 h367_5
                                        · have hK5 : ∀ (h367_5 : e_H), Sx K cX1_moved 367 [some (.ref a0), none, none, none, none, some (.long x178), none, some (.ref x181), some (.int x8_188), some (.int x203), some (.int x10_278), some (.int x288), some (.int x12_294)] [] h367_5 (some h367_5) Q5 := hK5
                                          refine S_icmp_eq 367 (dc_X1_moved 189 rfl) rfl (fun c319 => ?_) (fun c319 => ?_)
                                          · exact hK5 h312
                                          · refine S_aload_n (dc_X1_moved 190 rfl) rfl ?_
                                            refine S_aload (dc_X1_moved 191 rfl) rfl ?_
                                            refine S_iconst_ 0 (dc_X1_moved 192 rfl) rfl ?_
                                            refine S_iald (dc_X1_moved 193 rfl) (fun x326 e326 => ?_)
                                            refine S_aload (dc_X1_moved 194 rfl) rfl ?_
                                            refine S_iconst_ 1 (dc_X1_moved 195 rfl) rfl ?_
                                            refine S_iald (dc_X1_moved 196 rfl) (fun x330 e330 => ?_)
                                            refine S_aload (dc_X1_moved 197 rfl) rfl ?_
                                            refine S_iconst_ 2 (dc_X1_moved 198 rfl) rfl ?_
                                            refine S_iald (dc_X1_moved 199 rfl) (fun x334 e334 => ?_)
                                            refine Sx.ask (fun _ i335 => ?_)
                                            refine S_roI (d := k_d K - 1) (e_callV (b := a0) (As := [.int x326, .int x330, .int x334]) (rest := []) ok_X1_areInLine rfl (Nat.le_of_ble_eq_true rfl) (dc_X1_moved 200 rfl) ho q1177 q1179 (show e_cl[0]? = some (RX1, TX1, 37) from rfl) (e_sel.of qs27) (e_is_of i335) rfl (Nat.le_of_ble_eq_true rfl)) (by omega) (fun _ e => ct_X1_areInLine (by omega) e) (fun x335 e335 => ?_)
                                            refine S_if_ne 367 (dc_X1_moved 201 rfl) rfl (fun c338 => ?_) (fun c338 => ?_)
                                            · exact hK5 h312
                                            · refine S_aload_n (dc_X1_moved 202 rfl) rfl ?_
                                              refine S_aload (dc_X1_moved 203 rfl) rfl ?_
                                              refine S_iconst_ 0 (dc_X1_moved 204 rfl) rfl ?_
                                              refine S_iald (dc_X1_moved 205 rfl) (fun x345 e345 => ?_)
                                              refine S_aload (dc_X1_moved 206 rfl) rfl ?_
                                              refine S_iconst_ 1 (dc_X1_moved 207 rfl) rfl ?_
                                              refine S_iald (dc_X1_moved 208 rfl) (fun x349 e349 => ?_)
                                              refine S_aload (dc_X1_moved 209 rfl) rfl ?_
                                              refine S_iconst_ 2 (dc_X1_moved 210 rfl) rfl ?_
                                              refine S_iald (dc_X1_moved 211 rfl) (fun x353 e353 => ?_)
                                              refine S_roI (d := k_d K - 1) (e_callS (As := [.int x345, .int x349, .int x353]) (rest := [.ref a0]) ok_X1_stateOf rfl (Nat.le_of_ble_eq_true rfl) (dc_X1_moved 212 rfl) ho q1166 q1167 rfl (Nat.le_of_ble_eq_true rfl)) (by omega) (fun _ e => ct_X1_stateOf (by omega) e) (fun x354 e354 => ?_)
                                              refine S_aload_n (dc_X1_moved 213 rfl) rfl ?_
                                              refine S_getA (dc_X1_moved 214 rfl) ho fl_X1_128_0_28 (fun _ _ => rfl) (fun x358 e358 => ?_)
                                              refine S_iload (dc_X1_moved 215 rfl) rfl ?_
                                              refine S_iald (dc_X1_moved 216 rfl) (fun x363 e363 => ?_)
                                              refine S_rwV (d := k_d K - 1) (e_callV (b := a0) (As := [.int x354, .int x363]) (rest := []) ok_X1_reach rfl (Nat.le_of_ble_eq_true rfl) (dc_X1_moved 217 rfl) ho q1169 q1171 (show e_cl[0]? = some (RX1, TX1, 37) from rfl) (e_sel.of qs25) (e_is_of i335) rfl (Nat.le_of_ble_eq_true rfl)) (by omega) (fun _ e => ct_X1_reach (by omega) e) (fun h364 e364 => ?_)
                                              exact hK5 h364
                                  exact ih4 F 0 h_278
                          exact ih3 F 0 h238
                      · refine S_aload_n (dc_X1_moved 157 rfl) rfl ?_
                        refine S_getA (dc_X1_moved 158 rfl) ho fl_X1_128_0_28 (fun _ _ => rfl) (fun x266 e266 => ?_)
                        refine S_iload (dc_X1_moved 159 rfl) rfl ?_
                        refine S_iald (dc_X1_moved 160 rfl) (fun x271 e271 => ?_)
                        refine S_iconst_ 1 (dc_X1_moved 161 rfl) rfl ?_
                        refine S_isub (dc_X1_moved 162 rfl) ?_
                        refine Sx.err hE2 ?_
                        exact S_iret (dc_X1_moved 163 rfl) hT rfl (e_rqI hr)
                refine Sx.cut [true, true, true, false, false, true, true, true, true, true, true, true, true] ?_
                exact ih2 F 0 h181
            · have hK1 : ∀ (h118_1 : e_H), Sx K cX1_moved 118 [some (.ref a0), none, none, some (.ref x78), some (.ref x88), none, none, none, none, none, none, none, none] [] h118_1 (some h118_1) Q1 := hK1
              have ih1 : ∀ (n : Nat) (x5_94 : Int32) (h_94 : e_H), Sx K cX1_moved 94 [some (.ref a0), none, none, some (.ref x78), some (.ref x88), some (.int x5_94), none, none, none, none, none, none, none] [] h_94 (lp_X1_moved_94 F a0 n x5_94 h_94) Q1 := by
                intro n
                induction n with
                | zero => intro x5_94 h_94; exact Sx.none
                | succ n ih1 =>
                  intro x5_94 h_94
                  rw [lp_X1_moved_94.eq_2]
                  refine S_iload (dc_X1_moved 49 rfl) rfl ?_
                  refine S_aload_n (dc_X1_moved 50 rfl) rfl ?_
                  refine S_getA (dc_X1_moved 51 rfl) ho fl_X1_128_0_28 (fun _ _ => rfl) (fun x97 e97 => ?_)
                  refine S_alen (t := 0) (dc_X1_moved 52 rfl) (fun l100 e100 => ?_)
                  refine S_icmp_ge 118 (dc_X1_moved 53 rfl) rfl (fun c101 => ?_) (fun c101 => ?_)
                  · refine Sx.cut [true, true, true, true, true, false, true, true, true, true, true, true, true] ?_
                    exact hK1 h_94
                  · refine S_aload_n (dc_X1_moved 54 rfl) rfl ?_
                    refine S_getA (dc_X1_moved 55 rfl) ho fl_X1_128_0_28 (fun _ _ => rfl) (fun x105 e105 => ?_)
                    refine S_iload (dc_X1_moved 56 rfl) rfl ?_
                    refine S_iconst_ 0 (dc_X1_moved 57 rfl) rfl ?_
                    refine S_iast (dc_X1_moved 58 rfl) (fun h111 e111 => ?_)
                    refine S_iincN 1 (L' := fun x112 => [some (.ref a0), none, none, some (.ref x78), some (.ref x88), some (.int x112), none, none, none, none, none, none, none]) (dc_X1_moved 59 rfl) rfl rfl (fun _ => rfl) (fun x112 n112 => ?_)
                    refine S_goto 94 (dc_X1_moved 60 rfl) rfl ?_
                    exact ih1 x112 h111
              refine Sx.cut [true, false, false, true, true, true, true, true, true, true, true, true, true] ?_
              exact ih1 F 0 h
          · refine S_iconst_ (-1) (dc_X1_moved 33 rfl) rfl ?_
            exact S_iret (dc_X1_moved 34 rfl) hT rfl (e_rqI hr)
abbrev cX1_isGame : ByteArray := prog_1_method_73_code
def yX1_isGame : MethodName := ⟨"PegBands", "isGame", "()Z"⟩
def tb_X1_isGame : List (Nat × Instr × Nat) := [(0, .aload_n 0, 1), (1, .getfield 63, 3), (4, .getfield 401, 3), (7, .ifCond .le 19, 3), (10, .aload_n 0, 1), (11, .getfield 63, 3), (14, .invokevirtual 445, 3), (17, .bipush 9, 2), (19, .if_icmp .gt 7, 3), (22, .iconst 1, 1), (23, .goto 4, 3), (26, .iconst 0, 1), (27, .ireturn, 1)]
theorem tk_X1_isGame : ∀ q ∈ tb_X1_isGame, decode cX1_isGame q.1 = .ok q.2 := by decide +kernel
theorem dc_X1_isGame (k : Nat) {pc n : Nat} {i : Instr} (h : tb_X1_isGame[k]? = some (pc, i, n)) : decode cX1_isGame pc = .ok (i, n) := tk_X1_isGame (pc, i, n) (List.mem_of_getElem? h)
abbrev mX1_isGame : e_M := (yX1_isGame, cX1_isGame, 1, some (.boolean), [])
theorem ok_X1_isGame : e_mok mX1_isGame 0 := ⟨q1188, q108, by decide +kernel, fun sig h => by cases h; rfl⟩
def f_X1_isGame (h : e_H) (a0 : Nat) : Option Int32 :=
  Option.bind (e_fA h a0 0 6) (fun x1 =>
  Option.bind (e_fI h x1 2 2) (fun x4 =>
  if x4 ≤ 0 then
    some 0
  else
    Option.bind (e_fA h a0 0 6) (fun x11 =>
    Option.bind (e_is h x11 2) (fun _ =>
    Option.bind (f_X3_pegs h x11) (fun x14 =>
    if 9 < x14 then
      some 0
    else
      some 1)))))
set_option maxHeartbeats 4000000 in
set_option maxRecDepth 100000 in
theorem ct_X1_isGame {l : Launch} {D : e_D} {B : Heap} {d : Nat} {h : e_H} {a0 : Nat} {v : Int32} (hd : 2 ≤ d) (e : f_X1_isGame h a0 = some v) : e_Run l D B d mX1_isGame [.ref a0] h (.ok (some (.int v)), h) := by
  refine e_start [some (.ref a0)] (by decide) rfl rfl rfl (Nat.le_of_ble_eq_true rfl) (fun K hl0 hD0 hB0 hM hd0 hr => ?_)
  subst hl0 hD0 hB0 hd0
  have ho : (k_M K).1.cls = "PegBands" := by rw [hM]; rfl
  have hT : (k_M K).2.2.2.1 = some (.boolean) := by rw [hM]
  refine (show Sx K cX1_isGame 0 [some (.ref a0)] [] h (f_X1_isGame h a0) (fun w => w = v) from ?_) _ e rfl
  clear e
  unfold f_X1_isGame
  refine S_aload_n (dc_X1_isGame 0 rfl) rfl ?_
  refine S_getA (dc_X1_isGame 1 rfl) ho fl_X1_63_0_6 (fun _ _ => rfl) (fun x1 e1 => ?_)
  refine S_getI (dc_X1_isGame 2 rfl) ho fl_X1_401_2_2 (fun _ _ => rfl) (fun x4 e4 => ?_)
  refine S_if_le 26 (dc_X1_isGame 3 rfl) rfl (fun c7 => ?_) (fun c7 => ?_)
  · refine S_iconst_ 0 (dc_X1_isGame 11 rfl) rfl ?_
    exact S_iret (dc_X1_isGame 12 rfl) hT rfl (fun q => by cases q; exact hr)
  · refine S_aload_n (dc_X1_isGame 4 rfl) rfl ?_
    refine S_getA (dc_X1_isGame 5 rfl) ho fl_X1_63_0_6 (fun _ _ => rfl) (fun x11 e11 => ?_)
    refine Sx.ask (fun _ i14 => ?_)
    refine S_roI (d := k_d K - 1) (e_callV (b := x11) (As := []) (rest := []) ok_X3_pegs rfl (Nat.le_of_ble_eq_true rfl) (dc_X1_isGame 6 rfl) ho q1189 q1190 (show e_cl[2]? = some (RX3, TX3, 7) from rfl) (e_sel.of q1191) (e_is_of i14) rfl (Nat.le_of_ble_eq_true rfl)) (by omega) (fun _ e => ct_X3_pegs (by omega) e) (fun x14 e14 => ?_)
    refine S_bipush_ 9 (dc_X1_isGame 7 rfl) rfl ?_
    refine S_icmp_gt 26 (dc_X1_isGame 8 rfl) rfl (fun c19 => ?_) (fun c19 => ?_)
    · refine S_iconst_ 0 (dc_X1_isGame 11 rfl) rfl ?_
      exact S_iret (dc_X1_isGame 12 rfl) hT rfl (fun q => by cases q; exact hr)
    · refine S_iconst_ 1 (dc_X1_isGame 9 rfl) rfl ?_
      refine S_goto 27 (dc_X1_isGame 10 rfl) rfl ?_
      exact S_iret (dc_X1_isGame 12 rfl) hT rfl (fun q => by cases q; exact hr)
