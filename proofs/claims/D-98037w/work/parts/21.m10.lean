/-! printed by gen/gen.py -/
set_option maxRecDepth 100000
abbrev cX10_layAlong : ByteArray := prog_18_method_112_code
def yX10_layAlong : MethodName := ⟨"PegBandsModel", "layAlong", "(I)I"⟩
def tb_X10_layAlong : List (Nat × Instr × Nat) := [(0, .iconst 0, 1), (1, .istore_n 2, 1), (2, .iconst 0, 1), (3, .istore_n 3, 1), (4, .iload_n 3, 1), (5, .aload_n 0, 1), (6, .iload_n 1, 1), (7, .invokevirtual 279, 3), (10, .if_icmp .ge 167, 3), (13, .aload_n 0, 1), (14, .iload_n 1, 1), (15, .iload_n 3, 1), (16, .iconst 1, 1), (17, .iadd, 1), (18, .invokevirtual 285, 3), (21, .aload_n 0, 1), (22, .iload_n 1, 1), (23, .iload_n 3, 1), (24, .invokevirtual 285, 3), (27, .isub, 1), (28, .istore 4, 2), (30, .aload_n 0, 1), (31, .iload_n 1, 1), (32, .iload_n 3, 1), (33, .iconst 1, 1), (34, .iadd, 1), (35, .invokevirtual 289, 3), (38, .aload_n 0, 1), (39, .iload_n 1, 1), (40, .iload_n 3, 1), (41, .invokevirtual 289, 3), (44, .isub, 1), (45, .istore 5, 2), (47, .iload 4, 2), (49, .iload 5, 2), (51, .invokestatic 295, 3), (54, .istore 6, 2), (56, .iconst 0, 1), (57, .istore 7, 2), (59, .iload 7, 2), (61, .iload 6, 2), (63, .if_icmp .ge 108, 3), (66, .aload_n 0, 1), (67, .getfield 69, 3), (70, .iload_n 2, 1), (71, .aload_n 0, 1), (72, .iload_n 1, 1), (73, .iload_n 3, 1), (74, .invokevirtual 285, 3), (77, .iload 4, 2), (79, .iload 6, 2), (81, .idiv, 1), (82, .iload 7, 2), (84, .imul, 1), (85, .iadd, 1), (86, .iastore, 1), (87, .aload_n 0, 1), (88, .getfield 72, 3), (91, .iload_n 2, 1), (92, .aload_n 0, 1), (93, .iload_n 1, 1), (94, .iload_n 3, 1), (95, .invokevirtual 289, 3), (98, .iload 5, 2), (100, .iload 6, 2), (102, .idiv, 1), (103, .iload 7, 2), (105, .imul, 1), (106, .iadd, 1), (107, .iastore, 1), (108, .aload_n 0, 1), (109, .getfield 75, 3), (112, .iload_n 2, 1), (113, .iload_n 2, 1), (114, .ifCond .ne 7, 3), (117, .iconst 0, 1), (118, .goto 43, 3), (121, .aload_n 0, 1), (122, .getfield 75, 3), (125, .iload_n 2, 1), (126, .iconst 1, 1), (127, .isub, 1), (128, .iaload, 1), (129, .aload_n 0, 1), (130, .getfield 69, 3), (133, .iload_n 2, 1), (134, .iconst 1, 1), (135, .isub, 1), (136, .iaload, 1), (137, .aload_n 0, 1), (138, .getfield 72, 3), (141, .iload_n 2, 1), (142, .iaload, 1), (143, .imul, 1), (144, .iadd, 1), (145, .aload_n 0, 1), (146, .getfield 69, 3), (149, .iload_n 2, 1), (150, .iaload, 1), (151, .aload_n 0, 1), (152, .getfield 72, 3), (155, .iload_n 2, 1), (156, .iconst 1, 1), (157, .isub, 1), (158, .iaload, 1), (159, .imul, 1), (160, .isub, 1), (161, .iastore, 1), (162, .iinc 2 1, 3), (165, .iinc 7 1, 3), (168, .goto (-109), 3), (171, .iinc 3 1, 3), (174, .goto (-170), 3), (177, .iload_n 2, 1), (178, .ireturn, 1)]
theorem tk_X10_layAlong : ∀ q ∈ tb_X10_layAlong, decode cX10_layAlong q.1 = .ok q.2 := by decide +kernel
theorem dc_X10_layAlong (k : Nat) {pc n : Nat} {i : Instr} (h : tb_X10_layAlong[k]? = some (pc, i, n)) : decode cX10_layAlong pc = .ok (i, n) := tk_X10_layAlong (pc, i, n) (List.mem_of_getElem? h)
abbrev mX10_layAlong : e_M := (yX10_layAlong, cX10_layAlong, 8, some (.int), [])
theorem ok_X10_layAlong : e_mok mX10_layAlong 1 := ⟨q2047, q119, by decide +kernel, fun sig h => by cases h; rfl⟩
def lp_X10_layAlong_59 (F : Nat) (a0 : Nat) (a1 : Int32) (x3_4 : Int32) (x28 : Int32) (x45 : Int32) (x51 : Int32) : Nat → Int32 → Int32 → e_H → Option ((Int32 × e_H))
  | 0, _, _, _ => none
  | n + 1, x2_59, x7_59, h_59 =>
    if x51 ≤ x7_59 then
      some (x2_59, h_59)
    else
      Option.bind (e_fA h_59 a0 8 38) (fun x67 =>
      Option.bind (f_X10_x h_59 a0 a1 x3_4) (fun x74 =>
      if x51 = 0 then none else
      Option.bind (e_wI h_59 x67 0 x2_59 (x74 + ((x28 / x51) * x7_59))) (fun h86 =>
      Option.bind (e_fA h86 a0 8 39) (fun x88 =>
      Option.bind (f_X10_y h86 a0 a1 x3_4) (fun x95 =>
      if x51 = 0 then none else
      Option.bind (e_wI h86 x88 0 x2_59 (x95 + ((x45 / x51) * x7_59))) (fun h107 =>
      Option.bind (e_fA h107 a0 8 40) (fun x109 =>
      Option.bind (
          if x2_59 = 0 then
            some 0
          else
            Option.bind (e_fA h107 a0 8 40) (fun x122 =>
            Option.bind (e_aI h107 x122 0 (x2_59 - 1)) (fun x128 =>
            Option.bind (e_fA h107 a0 8 38) (fun x130 =>
            Option.bind (e_aI h107 x130 0 (x2_59 - 1)) (fun x136 =>
            Option.bind (e_fA h107 a0 8 39) (fun x138 =>
            Option.bind (e_aI h107 x138 0 x2_59) (fun x142 =>
            Option.bind (e_fA h107 a0 8 38) (fun x146 =>
            Option.bind (e_aI h107 x146 0 x2_59) (fun x150 =>
            Option.bind (e_fA h107 a0 8 39) (fun x152 =>
            Option.bind (e_aI h107 x152 0 (x2_59 - 1)) (fun x158 =>
            some ((x128 + (x136 * x142)) - (x150 * x158))))))))))))
        : Option (Int32)) (fun s161_3 =>
      Option.bind (e_wI h107 x109 0 x2_59 s161_3) (fun h161 =>
      Option.bind (some (x2_59 + 1)) (fun x162 =>
      Option.bind (some (x7_59 + 1)) (fun x165 =>
      lp_X10_layAlong_59 F a0 a1 x3_4 x28 x45 x51 n x162 x165 h161)))))))))))
def lp_X10_layAlong_4 (F : Nat) (a0 : Nat) (a1 : Int32) : Nat → Int32 → Int32 → e_H → Option ((Int32 × e_H))
  | 0, _, _, _ => none
  | n + 1, x2_4, x3_4, h_4 =>
    Option.bind (e_is h_4 a0 8) (fun _ =>
    Option.bind (f_X10_corners h_4 a0 a1) (fun x7 =>
    if x7 ≤ x3_4 then
      some (x2_4, h_4)
    else
      Option.bind (f_X10_x h_4 a0 a1 (x3_4 + 1)) (fun x18 =>
      Option.bind (f_X10_x h_4 a0 a1 x3_4) (fun x24 =>
      Option.bind (some (x18 - x24)) (fun x28 =>
      Option.bind (f_X10_y h_4 a0 a1 (x3_4 + 1)) (fun x35 =>
      Option.bind (f_X10_y h_4 a0 a1 x3_4) (fun x41 =>
      Option.bind (some (x35 - x41)) (fun x45 =>
      Option.bind (f_X10_common F x28 x45) (fun x51 =>
      Option.bind (
          lp_X10_layAlong_59 F a0 a1 x3_4 x28 x45 x51 F x2_4 0 h_4
        : Option ((Int32 × e_H))) (e_u2 (fun x2_171_2 h171_2 =>
      Option.bind (some (x3_4 + 1)) (fun x171 =>
      lp_X10_layAlong_4 F a0 a1 n x2_171_2 x171 h171_2))))))))))))
def f_X10_layAlong (F : Nat) (h : e_H) (a0 : Nat) (a1 : Int32) : Option (Int32 × e_H) :=
  Option.bind (
      lp_X10_layAlong_4 F a0 a1 F 0 0 h
    : Option ((Int32 × e_H))) (e_u2 (fun x2_177_1 h177_1 =>
  some (x2_177_1, h177_1)))
set_option maxHeartbeats 4000000 in
set_option maxRecDepth 100000 in
theorem ct_X10_layAlong {l : Launch} {D : e_D} {B : Heap} {F : Nat} {d : Nat} {h : e_H} {a0 : Nat} {a1 : Int32} {v : Int32} {h1 : e_H} (hd : 4 ≤ d) (e : f_X10_layAlong F h a0 a1 = some (v, h1)) : e_Run l D B d mX10_layAlong [.ref a0, .int a1] h (.ok (some (.int v)), h1) := by
  refine e_start [some (.ref a0), some (.int a1), none, none, none, none, none, none] (by decide) rfl rfl rfl (Nat.le_of_ble_eq_true rfl) (fun K hl0 hD0 hB0 hM hd0 hr => ?_)
  subst hl0 hD0 hB0 hd0
  have ho : (k_M K).1.cls = "PegBandsModel" := by rw [hM]; rfl
  have hT : (k_M K).2.2.2.1 = some (.int) := by rw [hM]
  refine (show Sx K cX10_layAlong 0 [some (.ref a0), some (.int a1), none, none, none, none, none, none] [] h (f_X10_layAlong F h a0 a1) (fun w => w = (v, h1)) from ?_) _ e rfl
  clear e
  unfold f_X10_layAlong
  refine S_iconst_ 0 (dc_X10_layAlong 0 rfl) rfl ?_
  refine S_istore_n (L' := [some (.ref a0), some (.int a1), some (.int 0), none, none, none, none, none]) (dc_X10_layAlong 1 rfl) rfl ?_
  refine S_iconst_ 0 (dc_X10_layAlong 2 rfl) rfl ?_
  refine S_istore_n (L' := [some (.ref a0), some (.int a1), some (.int 0), some (.int 0), none, none, none, none]) (dc_X10_layAlong 3 rfl) rfl ?_
  refine Sx.regK2 (pc2 := 177) (L2 := fun (x2_177_1 : Int32) (h177_1 : e_H) => [none, none, some (.int x2_177_1), none, none, none, none, none]) (st2 := fun (x2_177_1 : Int32) (h177_1 : e_H) => []) (h2 := fun (x2_177_1 : Int32) (h177_1 : e_H) => h177_1) ?_ (fun Q1 hK1 => ?_)
  · intro x2_177_1 h177_1
    show Sx K cX10_layAlong 177 [none, none, some (.int x2_177_1), none, none, none, none, none] [] h177_1 _ _
    refine S_iload_n (dc_X10_layAlong 113 rfl) rfl ?_
    exact S_iret (dc_X10_layAlong 114 rfl) hT rfl (e_rqI hr)
  · have hK1 : ∀ (x2_177_1 : Int32) (h177_1 : e_H), Sx K cX10_layAlong 177 [none, none, some (.int x2_177_1), none, none, none, none, none] [] h177_1 (some (x2_177_1, h177_1)) Q1 := hK1
    have ih1 : ∀ (n : Nat) (x2_4 : Int32) (x3_4 : Int32) (h_4 : e_H), Sx K cX10_layAlong 4 [some (.ref a0), some (.int a1), some (.int x2_4), some (.int x3_4), none, none, none, none] [] h_4 (lp_X10_layAlong_4 F a0 a1 n x2_4 x3_4 h_4) Q1 := by
      intro n
      induction n with
      | zero => intro x2_4 x3_4 h_4; exact Sx.none
      | succ n ih1 =>
        intro x2_4 x3_4 h_4
        rw [lp_X10_layAlong_4.eq_2]
        refine S_iload_n (dc_X10_layAlong 4 rfl) rfl ?_
        refine S_aload_n (dc_X10_layAlong 5 rfl) rfl ?_
        refine S_iload_n (dc_X10_layAlong 6 rfl) rfl ?_
        refine Sx.ask (fun _ i7 => ?_)
        refine S_roI (d := k_d K - 1) (e_callV (b := a0) (As := [.int a1]) (rest := [.int x3_4]) ok_X10_corners rfl (Nat.le_of_ble_eq_true rfl) (dc_X10_layAlong 7 rfl) ho q1803 q1805 (show e_cl[8]? = some (RX10, TX10, 51) from rfl) (e_sel.of qs55) (e_is_of i7) rfl (Nat.le_of_ble_eq_true rfl)) (by omega) (fun _ e => ct_X10_corners (by omega) e) (fun x7 e7 => ?_)
        refine S_icmp_ge 177 (dc_X10_layAlong 8 rfl) rfl (fun c10 => ?_) (fun c10 => ?_)
        · refine Sx.cut [false, false, true, false, true, true, true, true] ?_
          exact hK1 x2_4 h_4
        · refine S_aload_n (dc_X10_layAlong 9 rfl) rfl ?_
          refine S_iload_n (dc_X10_layAlong 10 rfl) rfl ?_
          refine S_iload_n (dc_X10_layAlong 11 rfl) rfl ?_
          refine S_iconst_ 1 (dc_X10_layAlong 12 rfl) rfl ?_
          refine S_iadd (dc_X10_layAlong 13 rfl) ?_
          refine S_roI (d := k_d K - 1) (e_callV (b := a0) (As := [.int a1, .int (x3_4 + 1)]) (rest := []) ok_X10_x rfl (Nat.le_of_ble_eq_true rfl) (dc_X10_layAlong 14 rfl) ho q1815 q1817 (show e_cl[8]? = some (RX10, TX10, 51) from rfl) (e_sel.of qs58) (e_is_of i7) rfl (Nat.le_of_ble_eq_true rfl)) (by omega) (fun _ e => ct_X10_x (by omega) e) (fun x18 e18 => ?_)
          refine S_aload_n (dc_X10_layAlong 15 rfl) rfl ?_
          refine S_iload_n (dc_X10_layAlong 16 rfl) rfl ?_
          refine S_iload_n (dc_X10_layAlong 17 rfl) rfl ?_
          refine S_roI (d := k_d K - 1) (e_callV (b := a0) (As := [.int a1, .int x3_4]) (rest := [.int x18]) ok_X10_x rfl (Nat.le_of_ble_eq_true rfl) (dc_X10_layAlong 18 rfl) ho q1815 q1817 (show e_cl[8]? = some (RX10, TX10, 51) from rfl) (e_sel.of qs58) (e_is_of i7) rfl (Nat.le_of_ble_eq_true rfl)) (by omega) (fun _ e => ct_X10_x (by omega) e) (fun x24 e24 => ?_)
          refine S_isub (dc_X10_layAlong 19 rfl) ?_
          refine Sx.nameI (fun x28 n28 => ?_)
          refine S_istore (L' := [some (.ref a0), some (.int a1), some (.int x2_4), some (.int x3_4), some (.int x28), none, none, none]) (dc_X10_layAlong 20 rfl) rfl ?_
          refine S_aload_n (dc_X10_layAlong 21 rfl) rfl ?_
          refine S_iload_n (dc_X10_layAlong 22 rfl) rfl ?_
          refine S_iload_n (dc_X10_layAlong 23 rfl) rfl ?_
          refine S_iconst_ 1 (dc_X10_layAlong 24 rfl) rfl ?_
          refine S_iadd (dc_X10_layAlong 25 rfl) ?_
          refine S_roI (d := k_d K - 1) (e_callV (b := a0) (As := [.int a1, .int (x3_4 + 1)]) (rest := []) ok_X10_y rfl (Nat.le_of_ble_eq_true rfl) (dc_X10_layAlong 26 rfl) ho q1819 q1821 (show e_cl[8]? = some (RX10, TX10, 51) from rfl) (e_sel.of qs59) (e_is_of i7) rfl (Nat.le_of_ble_eq_true rfl)) (by omega) (fun _ e => ct_X10_y (by omega) e) (fun x35 e35 => ?_)
          refine S_aload_n (dc_X10_layAlong 27 rfl) rfl ?_
          refine S_iload_n (dc_X10_layAlong 28 rfl) rfl ?_
          refine S_iload_n (dc_X10_layAlong 29 rfl) rfl ?_
          refine S_roI (d := k_d K - 1) (e_callV (b := a0) (As := [.int a1, .int x3_4]) (rest := [.int x35]) ok_X10_y rfl (Nat.le_of_ble_eq_true rfl) (dc_X10_layAlong 30 rfl) ho q1819 q1821 (show e_cl[8]? = some (RX10, TX10, 51) from rfl) (e_sel.of qs59) (e_is_of i7) rfl (Nat.le_of_ble_eq_true rfl)) (by omega) (fun _ e => ct_X10_y (by omega) e) (fun x41 e41 => ?_)
          refine S_isub (dc_X10_layAlong 31 rfl) ?_
          refine Sx.nameI (fun x45 n45 => ?_)
          refine S_istore (L' := [some (.ref a0), some (.int a1), some (.int x2_4), some (.int x3_4), some (.int x28), some (.int x45), none, none]) (dc_X10_layAlong 32 rfl) rfl ?_
          refine S_iload (dc_X10_layAlong 33 rfl) rfl ?_
          refine S_iload (dc_X10_layAlong 34 rfl) rfl ?_
          refine S_roI (d := k_d K - 1) (e_callS (As := [.int x28, .int x45]) (rest := []) ok_X10_common rfl (Nat.le_of_ble_eq_true rfl) (dc_X10_layAlong 35 rfl) ho q1830 q1831 rfl (Nat.le_of_ble_eq_true rfl)) (by omega) (fun _ e => ct_X10_common (by omega) e) (fun x51 e51 => ?_)
          refine S_istore (L' := [some (.ref a0), some (.int a1), some (.int x2_4), some (.int x3_4), some (.int x28), some (.int x45), some (.int x51), none]) (dc_X10_layAlong 36 rfl) rfl ?_
          refine S_iconst_ 0 (dc_X10_layAlong 37 rfl) rfl ?_
          refine S_istore (L' := [some (.ref a0), some (.int a1), some (.int x2_4), some (.int x3_4), some (.int x28), some (.int x45), some (.int x51), some (.int 0)]) (dc_X10_layAlong 38 rfl) rfl ?_
          refine Sx.regK2 (pc2 := 171) (L2 := fun (x2_171_2 : Int32) (h171_2 : e_H) => [some (.ref a0), some (.int a1), some (.int x2_171_2), some (.int x3_4), none, none, none, none]) (st2 := fun (x2_171_2 : Int32) (h171_2 : e_H) => []) (h2 := fun (x2_171_2 : Int32) (h171_2 : e_H) => h171_2) ?_ (fun Q2 hK2 => ?_)
          · intro x2_171_2 h171_2
            show Sx K cX10_layAlong 171 [some (.ref a0), some (.int a1), some (.int x2_171_2), some (.int x3_4), none, none, none, none] [] h171_2 _ _
            refine S_iincN 1 (L' := fun x171 => [some (.ref a0), some (.int a1), some (.int x2_171_2), some (.int x171), none, none, none, none]) (dc_X10_layAlong 111 rfl) rfl rfl (fun _ => rfl) (fun x171 n171 => ?_)
            refine S_goto 4 (dc_X10_layAlong 112 rfl) rfl ?_
            exact ih1 x2_171_2 x171 h171_2
          · have hK2 : ∀ (x2_171_2 : Int32) (h171_2 : e_H), Sx K cX10_layAlong 171 [some (.ref a0), some (.int a1), some (.int x2_171_2), some (.int x3_4), none, none, none, none] [] h171_2 (some (x2_171_2, h171_2)) Q2 := hK2
            have ih2 : ∀ (n : Nat) (x2_59 : Int32) (x7_59 : Int32) (h_59 : e_H), Sx K cX10_layAlong 59 [some (.ref a0), some (.int a1), some (.int x2_59), some (.int x3_4), some (.int x28), some (.int x45), some (.int x51), some (.int x7_59)] [] h_59 (lp_X10_layAlong_59 F a0 a1 x3_4 x28 x45 x51 n x2_59 x7_59 h_59) Q2 := by
              intro n
              induction n with
              | zero => intro x2_59 x7_59 h_59; exact Sx.none
              | succ n ih2 =>
                intro x2_59 x7_59 h_59
                rw [lp_X10_layAlong_59.eq_2]
                refine S_iload (dc_X10_layAlong 39 rfl) rfl ?_
                refine S_iload (dc_X10_layAlong 40 rfl) rfl ?_
                refine S_icmp_ge 171 (dc_X10_layAlong 41 rfl) rfl (fun c63 => ?_) (fun c63 => ?_)
                · refine Sx.cut [true, true, true, true, false, false, false, false] ?_
                  exact hK2 x2_59 h_59
                · refine S_aload_n (dc_X10_layAlong 42 rfl) rfl ?_
                  refine S_getA (dc_X10_layAlong 43 rfl) ho fl_X10_69_8_38 (fun _ _ => rfl) (fun x67 e67 => ?_)
                  refine S_iload_n (dc_X10_layAlong 44 rfl) rfl ?_
                  refine S_aload_n (dc_X10_layAlong 45 rfl) rfl ?_
                  refine S_iload_n (dc_X10_layAlong 46 rfl) rfl ?_
                  refine S_iload_n (dc_X10_layAlong 47 rfl) rfl ?_
                  refine S_roI (d := k_d K - 1) (e_callV (b := a0) (As := [.int a1, .int x3_4]) (rest := [.int x2_59, .ref x67]) ok_X10_x rfl (Nat.le_of_ble_eq_true rfl) (dc_X10_layAlong 48 rfl) ho q1815 q1817 (show e_cl[8]? = some (RX10, TX10, 51) from rfl) (e_sel.of qs58) (e_fA_of e67).1 rfl (Nat.le_of_ble_eq_true rfl)) (by omega) (fun _ e => ct_X10_x (by omega) e) (fun x74 e74 => ?_)
                  refine S_iload (dc_X10_layAlong 49 rfl) rfl ?_
                  refine S_iload (dc_X10_layAlong 50 rfl) rfl ?_
                  refine Sx.ncond (fun c81 => ?_)
                  refine S_idiv (dc_X10_layAlong 51 rfl) c81 ?_
                  refine S_iload (dc_X10_layAlong 52 rfl) rfl ?_
                  refine S_imul (dc_X10_layAlong 53 rfl) ?_
                  refine S_iadd (dc_X10_layAlong 54 rfl) ?_
                  refine S_iast (dc_X10_layAlong 55 rfl) (fun h86 e86 => ?_)
                  refine S_aload_n (dc_X10_layAlong 56 rfl) rfl ?_
                  refine S_getA (dc_X10_layAlong 57 rfl) ho fl_X10_72_8_39 (fun _ _ => rfl) (fun x88 e88 => ?_)
                  refine S_iload_n (dc_X10_layAlong 58 rfl) rfl ?_
                  refine S_aload_n (dc_X10_layAlong 59 rfl) rfl ?_
                  refine S_iload_n (dc_X10_layAlong 60 rfl) rfl ?_
                  refine S_iload_n (dc_X10_layAlong 61 rfl) rfl ?_
                  refine S_roI (d := k_d K - 1) (e_callV (b := a0) (As := [.int a1, .int x3_4]) (rest := [.int x2_59, .ref x88]) ok_X10_y rfl (Nat.le_of_ble_eq_true rfl) (dc_X10_layAlong 62 rfl) ho q1819 q1821 (show e_cl[8]? = some (RX10, TX10, 51) from rfl) (e_sel.of qs59) (e_fA_of e88).1 rfl (Nat.le_of_ble_eq_true rfl)) (by omega) (fun _ e => ct_X10_y (by omega) e) (fun x95 e95 => ?_)
                  refine S_iload (dc_X10_layAlong 63 rfl) rfl ?_
                  refine S_iload (dc_X10_layAlong 64 rfl) rfl ?_
                  refine Sx.ncond (fun c102 => ?_)
                  refine S_idiv (dc_X10_layAlong 65 rfl) c102 ?_
                  refine S_iload (dc_X10_layAlong 66 rfl) rfl ?_
                  refine S_imul (dc_X10_layAlong 67 rfl) ?_
                  refine S_iadd (dc_X10_layAlong 68 rfl) ?_
                  refine S_iast (dc_X10_layAlong 69 rfl) (fun h107 e107 => ?_)
                  refine S_aload_n (dc_X10_layAlong 70 rfl) rfl ?_
                  refine S_getA (dc_X10_layAlong 71 rfl) ho fl_X10_75_8_40 (fun _ _ => rfl) (fun x109 e109 => ?_)
                  refine S_iload_n (dc_X10_layAlong 72 rfl) rfl ?_
                  refine S_iload_n (dc_X10_layAlong 73 rfl) rfl ?_
                  refine Sx.regK1 (pc2 := 161) (L2 := fun (s161_3 : Int32) => [some (.ref a0), some (.int a1), some (.int x2_59), some (.int x3_4), some (.int x28), some (.int x45), some (.int x51), some (.int x7_59)]) (st2 := fun (s161_3 : Int32) => [.int s161_3, .int x2_59, .ref x109]) (h2 := fun (s161_3 : Int32) => h107) ?_ (fun Q3 hK3 => ?_)
                  · intro s161_3
                    show Sx K cX10_layAlong 161 [some (.ref a0), some (.int a1), some (.int x2_59), some (.int x3_4), some (.int x28), some (.int x45), some (.int x51), some (.int x7_59)] [.int s161_3, .int x2_59, .ref x109] h107 _ _
                    refine S_iast (dc_X10_layAlong 107 rfl) (fun h161 e161 => ?_)
                    refine S_iincN 1 (L' := fun x162 => [some (.ref a0), some (.int a1), some (.int x162), some (.int x3_4), some (.int x28), some (.int x45), some (.int x51), some (.int x7_59)]) (dc_X10_layAlong 108 rfl) rfl rfl (fun _ => rfl) (fun x162 n162 => ?_)
                    refine S_iincN 1 (L' := fun x165 => [some (.ref a0), some (.int a1), some (.int x162), some (.int x3_4), some (.int x28), some (.int x45), some (.int x51), some (.int x165)]) (dc_X10_layAlong 109 rfl) rfl rfl (fun _ => rfl) (fun x165 n165 => ?_)
                    refine S_goto 59 (dc_X10_layAlong 110 rfl) rfl ?_
                    exact ih2 x162 x165 h161
                  · have hK3 : ∀ (s161_3 : Int32), Sx K cX10_layAlong 161 [some (.ref a0), some (.int a1), some (.int x2_59), some (.int x3_4), some (.int x28), some (.int x45), some (.int x51), some (.int x7_59)] [.int s161_3, .int x2_59, .ref x109] h107 (some s161_3) Q3 := hK3
                    refine S_if_ne 121 (dc_X10_layAlong 74 rfl) rfl (fun c114 => ?_) (fun c114 => ?_)
                    · refine S_aload_n (dc_X10_layAlong 77 rfl) rfl ?_
                      refine S_getA (dc_X10_layAlong 78 rfl) ho fl_X10_75_8_40 (fun _ _ => rfl) (fun x122 e122 => ?_)
                      refine S_iload_n (dc_X10_layAlong 79 rfl) rfl ?_
                      refine S_iconst_ 1 (dc_X10_layAlong 80 rfl) rfl ?_
                      refine S_isub (dc_X10_layAlong 81 rfl) ?_
                      refine S_iald (dc_X10_layAlong 82 rfl) (fun x128 e128 => ?_)
                      refine S_aload_n (dc_X10_layAlong 83 rfl) rfl ?_
                      refine S_getA (dc_X10_layAlong 84 rfl) ho fl_X10_69_8_38 (fun _ _ => rfl) (fun x130 e130 => ?_)
                      refine S_iload_n (dc_X10_layAlong 85 rfl) rfl ?_
                      refine S_iconst_ 1 (dc_X10_layAlong 86 rfl) rfl ?_
                      refine S_isub (dc_X10_layAlong 87 rfl) ?_
                      refine S_iald (dc_X10_layAlong 88 rfl) (fun x136 e136 => ?_)
                      refine S_aload_n (dc_X10_layAlong 89 rfl) rfl ?_
                      refine S_getA (dc_X10_layAlong 90 rfl) ho fl_X10_72_8_39 (fun _ _ => rfl) (fun x138 e138 => ?_)
                      refine S_iload_n (dc_X10_layAlong 91 rfl) rfl ?_
                      refine S_iald (dc_X10_layAlong 92 rfl) (fun x142 e142 => ?_)
                      refine S_imul (dc_X10_layAlong 93 rfl) ?_
                      refine S_iadd (dc_X10_layAlong 94 rfl) ?_
                      refine S_aload_n (dc_X10_layAlong 95 rfl) rfl ?_
                      refine S_getA (dc_X10_layAlong 96 rfl) ho fl_X10_69_8_38 (fun _ _ => rfl) (fun x146 e146 => ?_)
                      refine S_iload_n (dc_X10_layAlong 97 rfl) rfl ?_
                      refine S_iald (dc_X10_layAlong 98 rfl) (fun x150 e150 => ?_)
                      refine S_aload_n (dc_X10_layAlong 99 rfl) rfl ?_
                      refine S_getA (dc_X10_layAlong 100 rfl) ho fl_X10_72_8_39 (fun _ _ => rfl) (fun x152 e152 => ?_)
                      refine S_iload_n (dc_X10_layAlong 101 rfl) rfl ?_
                      refine S_iconst_ 1 (dc_X10_layAlong 102 rfl) rfl ?_
                      refine S_isub (dc_X10_layAlong 103 rfl) ?_
                      refine S_iald (dc_X10_layAlong 104 rfl) (fun x158 e158 => ?_)
                      refine S_imul (dc_X10_layAlong 105 rfl) ?_
                      refine S_isub (dc_X10_layAlong 106 rfl) ?_
                      exact hK3 ((x128 + (x136 * x142)) - (x150 * x158))
                    · refine S_iconst_ 0 (dc_X10_layAlong 75 rfl) rfl ?_
                      refine S_goto 161 (dc_X10_layAlong 76 rfl) rfl ?_
                      exact hK3 0
            exact ih2 F x2_4 0 h_4
    exact ih1 F 0 0 h
abbrev cX10_isCut : ByteArray := prog_18_method_113_code
def yX10_isCut : MethodName := ⟨"PegBandsModel", "isCut", "(III)Z"⟩
def tb_X10_isCut : List (Nat × Instr × Nat) := [(0, .aload_n 0, 1), (1, .getfield 69, 3), (4, .iload_n 2, 1), (5, .iaload, 1), (6, .istore 4, 2), (8, .aload_n 0, 1), (9, .getfield 72, 3), (12, .iload_n 2, 1), (13, .iaload, 1), (14, .istore 5, 2), (16, .aload_n 0, 1), (17, .getfield 69, 3), (20, .iload_n 3, 1), (21, .iaload, 1), (22, .istore 6, 2), (24, .aload_n 0, 1), (25, .getfield 72, 3), (28, .iload_n 3, 1), (29, .iaload, 1), (30, .istore 7, 2), (32, .aload_n 0, 1), (33, .getfield 75, 3), (36, .iload_n 3, 1), (37, .iaload, 1), (38, .aload_n 0, 1), (39, .getfield 75, 3), (42, .iload_n 2, 1), (43, .iaload, 1), (44, .isub, 1), (45, .iload 6, 2), (47, .iload 5, 2), (49, .imul, 1), (50, .iadd, 1), (51, .iload 4, 2), (53, .iload 7, 2), (55, .imul, 1), (56, .isub, 1), (57, .invokestatic 105, 3), (60, .istore 8, 2), (62, .iconst 2, 1), (63, .iload 8, 2), (65, .imul, 1), (66, .aload_n 0, 1), (67, .iload_n 1, 1), (68, .invokevirtual 298, 3), (71, .if_icmp .eq 5, 3), (74, .iconst 0, 1), (75, .ireturn, 1), (76, .iconst 0, 1), (77, .istore 9, 2), (79, .iload 9, 2), (81, .aload_n 0, 1), (82, .iload_n 1, 1), (83, .invokevirtual 279, 3), (86, .if_icmp .ge 174, 3), (89, .aload_n 0, 1), (90, .iload_n 1, 1), (91, .iload 9, 2), (93, .invokevirtual 285, 3), (96, .istore 10, 2), (98, .aload_n 0, 1), (99, .iload_n 1, 1), (100, .iload 9, 2), (102, .invokevirtual 289, 3), (105, .istore 11, 2), (107, .iload 4, 2), (109, .iload 5, 2), (111, .iload 6, 2), (113, .iload 7, 2), (115, .iload 10, 2), (117, .iload 11, 2), (119, .aload_n 0, 1), (120, .iload_n 1, 1), (121, .iload 9, 2), (123, .iconst 1, 1), (124, .iadd, 1), (125, .invokevirtual 285, 3), (128, .aload_n 0, 1), (129, .iload_n 1, 1), (130, .iload 9, 2), (132, .iconst 1, 1), (133, .iadd, 1), (134, .invokevirtual 289, 3), (137, .invokestatic 214, 3), (140, .iconst 1, 1), (141, .if_icmp .ne 5, 3), (144, .iconst 0, 1), (145, .ireturn, 1), (146, .iload 10, 2), (148, .iload 4, 2), (150, .if_icmp .ne 10, 3), (153, .iload 11, 2), (155, .iload 5, 2), (157, .if_icmp .eq 17, 3), (160, .iload 10, 2), (162, .iload 6, 2), (164, .if_icmp .ne 14, 3), (167, .iload 11, 2), (169, .iload 7, 2), (171, .if_icmp .ne 7, 3), (174, .iconst 1, 1), (175, .goto 4, 3), (178, .iconst 0, 1), (179, .istore 12, 2), (181, .iload 12, 2), (183, .ifCond .ne 23, 3), (186, .iload 10, 2), (188, .iload 11, 2), (190, .iload 4, 2), (192, .iload 5, 2), (194, .iload 6, 2), (196, .iload 7, 2), (198, .invokestatic 199, 3), (201, .ifCond .eq 5, 3), (204, .iconst 0, 1), (205, .ireturn, 1), (206, .iload 4, 2), (208, .iload 6, 2), (210, .iadd, 1), (211, .iload 5, 2), (213, .iload 7, 2), (215, .iadd, 1), (216, .iconst 2, 1), (217, .iload 10, 2), (219, .imul, 1), (220, .iconst 2, 1), (221, .iload 11, 2), (223, .imul, 1), (224, .iconst 2, 1), (225, .aload_n 0, 1), (226, .iload_n 1, 1), (227, .iload 9, 2), (229, .iconst 1, 1), (230, .iadd, 1), (231, .invokevirtual 285, 3), (234, .imul, 1), (235, .iconst 2, 1), (236, .aload_n 0, 1), (237, .iload_n 1, 1), (238, .iload 9, 2), (240, .iconst 1, 1), (241, .iadd, 1), (242, .invokevirtual 289, 3), (245, .imul, 1), (246, .invokestatic 199, 3), (249, .ifCond .eq 5, 3), (252, .iconst 0, 1), (253, .ireturn, 1), (254, .iinc 9 1, 3), (257, .goto (-178), 3), (260, .aload_n 0, 1), (261, .iload_n 1, 1), (262, .iload 4, 2), (264, .iload 6, 2), (266, .iadd, 1), (267, .iload 5, 2), (269, .iload 7, 2), (271, .iadd, 1), (272, .iconst 2, 1), (273, .invokevirtual 326, 3), (276, .ireturn, 1)]
theorem tk_X10_isCut : ∀ q ∈ tb_X10_isCut, decode cX10_isCut q.1 = .ok q.2 := by decide +kernel
theorem dc_X10_isCut (k : Nat) {pc n : Nat} {i : Instr} (h : tb_X10_isCut[k]? = some (pc, i, n)) : decode cX10_isCut pc = .ok (i, n) := tk_X10_isCut (pc, i, n) (List.mem_of_getElem? h)
abbrev mX10_isCut : e_M := (yX10_isCut, cX10_isCut, 13, some (.boolean), [])
theorem ok_X10_isCut : e_mok mX10_isCut 3 := ⟨q2051, q119, by decide +kernel, fun sig h => by cases h; rfl⟩
def lp_X10_isCut_79 (F : Nat) (h : e_H) (a0 : Nat) (a1 : Int32) (x5 : Int32) (x13 : Int32) (x21 : Int32) (x29 : Int32) : Nat → Int32 → Option (Except Int32 Unit)
  | 0, _ => none
  | n + 1, x9_79 =>
    Option.bind (f_X10_corners h a0 a1) (fun x83 =>
    if x83 ≤ x9_79 then
      some (.ok ())
    else
      Option.bind (f_X10_x h a0 a1 x9_79) (fun x93 =>
      Option.bind (f_X10_y h a0 a1 x9_79) (fun x102 =>
      Option.bind (f_X10_x h a0 a1 (x9_79 + 1)) (fun x125 =>
      Option.bind (f_X10_y h a0 a1 (x9_79 + 1)) (fun x134 =>
      Option.bind (f_X10_meet x5 x13 x21 x29 x93 x102 x125 x134) (fun x137 =>
      if x137 = 1 then
        some (.error 0)
      else
        Option.bind (
            e_bE (
                e_bE (
                    if x93 = x5 then
                      if x102 = x13 then
                        some (.error (.ok ()))
                      else
                        some (.ok ())
                    else
                      some (.ok ())
                  : Option (Except (Except Int32 Unit) Unit)) (fun _ =>
                e_bE (
                    if x93 = x21 then
                      if x102 = x29 then
                        some (.error (.ok ()))
                      else
                        some (.ok ())
                    else
                      some (.ok ())
                  : Option (Except (Except Int32 Unit) Unit)) (fun _ =>
                some (.error 0)))
              : Option (Except Int32 Unit)) (fun _ =>
            some 1)
          : Option (Int32)) (fun s179_2 =>
        e_bE (
            if s179_2 = 0 then
              Option.bind (f_X10_isOnSide x93 x102 x5 x13 x21 x29) (fun x198 =>
              if x198 = 0 then
                some (.ok ())
              else
                some (.error (.error 0)))
            else
              some (.ok ())
          : Option (Except (Except Int32 Unit) Unit)) (fun _ =>
        Option.bind (f_X10_x h a0 a1 (x9_79 + 1)) (fun x231 =>
        Option.bind (f_X10_y h a0 a1 (x9_79 + 1)) (fun x242 =>
        Option.bind (f_X10_isOnSide (x5 + x21) (x13 + x29) (2 * x93) (2 * x102) (2 * x231) (2 * x242)) (fun x246 =>
        if x246 = 0 then
          Option.bind (some (x9_79 + 1)) (fun x254 =>
          lp_X10_isCut_79 F h a0 a1 x5 x13 x21 x29 n x254)
        else
          some (.error 0))))))))))))
def f_X10_isCut (F : Nat) (h : e_H) (a0 : Nat) (a1 : Int32) (a2 : Int32) (a3 : Int32) : Option Int32 :=
  Option.bind (e_fA h a0 8 38) (fun x1 =>
  Option.bind (e_aI h x1 0 a2) (fun x5 =>
  Option.bind (e_fA h a0 8 39) (fun x9 =>
  Option.bind (e_aI h x9 0 a2) (fun x13 =>
  Option.bind (e_fA h a0 8 38) (fun x17 =>
  Option.bind (e_aI h x17 0 a3) (fun x21 =>
  Option.bind (e_fA h a0 8 39) (fun x25 =>
  Option.bind (e_aI h x25 0 a3) (fun x29 =>
  Option.bind (e_fA h a0 8 40) (fun x33 =>
  Option.bind (e_aI h x33 0 a3) (fun x37 =>
  Option.bind (e_fA h a0 8 40) (fun x39 =>
  Option.bind (e_aI h x39 0 a2) (fun x43 =>
  Option.bind (f_X10_size (((x37 - x43) + (x21 * x13)) - (x5 * x29))) (fun x57 =>
  Option.bind (f_X10_area F h a0 a1) (fun x68 =>
  if (2 * x57) = x68 then
    e_bE (
        lp_X10_isCut_79 F h a0 a1 x5 x13 x21 x29 F 0
      : Option (Except Int32 Unit)) (fun _ =>
    Option.bind (f_X10_encloses F h a0 a1 (x5 + x21) (x13 + x29) 2) (fun x273 =>
    if x273 = 0 ∨ x273 = 1 then some x273 else none))
  else
    some 0))))))))))))))
set_option maxHeartbeats 4000000 in
set_option maxRecDepth 100000 in
theorem ct_X10_isCut {l : Launch} {D : e_D} {B : Heap} {F : Nat} {d : Nat} {h : e_H} {a0 : Nat} {a1 : Int32} {a2 : Int32} {a3 : Int32} {v : Int32} (hd : 6 ≤ d) (e : f_X10_isCut F h a0 a1 a2 a3 = some v) : e_Run l D B d mX10_isCut [.ref a0, .int a1, .int a2, .int a3] h (.ok (some (.int v)), h) := by
  refine e_start [some (.ref a0), some (.int a1), some (.int a2), some (.int a3), none, none, none, none, none, none, none, none, none] (by decide) rfl rfl rfl (Nat.le_of_ble_eq_true rfl) (fun K hl0 hD0 hB0 hM hd0 hr => ?_)
  subst hl0 hD0 hB0 hd0
  have ho : (k_M K).1.cls = "PegBandsModel" := by rw [hM]; rfl
  have hT : (k_M K).2.2.2.1 = some (.boolean) := by rw [hM]
  refine (show Sx K cX10_isCut 0 [some (.ref a0), some (.int a1), some (.int a2), some (.int a3), none, none, none, none, none, none, none, none, none] [] h (f_X10_isCut F h a0 a1 a2 a3) (fun w => w = v) from ?_) _ e rfl
  clear e
  unfold f_X10_isCut
  refine S_aload_n (dc_X10_isCut 0 rfl) rfl ?_
  refine S_getA (dc_X10_isCut 1 rfl) ho fl_X10_69_8_38 (fun _ _ => rfl) (fun x1 e1 => ?_)
  refine S_iload_n (dc_X10_isCut 2 rfl) rfl ?_
  refine S_iald (dc_X10_isCut 3 rfl) (fun x5 e5 => ?_)
  refine S_istore (L' := [some (.ref a0), some (.int a1), some (.int a2), some (.int a3), some (.int x5), none, none, none, none, none, none, none, none]) (dc_X10_isCut 4 rfl) rfl ?_
  refine S_aload_n (dc_X10_isCut 5 rfl) rfl ?_
  refine S_getA (dc_X10_isCut 6 rfl) ho fl_X10_72_8_39 (fun _ _ => rfl) (fun x9 e9 => ?_)
  refine S_iload_n (dc_X10_isCut 7 rfl) rfl ?_
  refine S_iald (dc_X10_isCut 8 rfl) (fun x13 e13 => ?_)
  refine S_istore (L' := [some (.ref a0), some (.int a1), some (.int a2), some (.int a3), some (.int x5), some (.int x13), none, none, none, none, none, none, none]) (dc_X10_isCut 9 rfl) rfl ?_
  refine S_aload_n (dc_X10_isCut 10 rfl) rfl ?_
  refine S_getA (dc_X10_isCut 11 rfl) ho fl_X10_69_8_38 (fun _ _ => rfl) (fun x17 e17 => ?_)
  refine S_iload_n (dc_X10_isCut 12 rfl) rfl ?_
  refine S_iald (dc_X10_isCut 13 rfl) (fun x21 e21 => ?_)
  refine S_istore (L' := [some (.ref a0), some (.int a1), some (.int a2), some (.int a3), some (.int x5), some (.int x13), some (.int x21), none, none, none, none, none, none]) (dc_X10_isCut 14 rfl) rfl ?_
  refine S_aload_n (dc_X10_isCut 15 rfl) rfl ?_
  refine S_getA (dc_X10_isCut 16 rfl) ho fl_X10_72_8_39 (fun _ _ => rfl) (fun x25 e25 => ?_)
  refine S_iload_n (dc_X10_isCut 17 rfl) rfl ?_
  refine S_iald (dc_X10_isCut 18 rfl) (fun x29 e29 => ?_)
  refine S_istore (L' := [some (.ref a0), some (.int a1), some (.int a2), some (.int a3), some (.int x5), some (.int x13), some (.int x21), some (.int x29), none, none, none, none, none]) (dc_X10_isCut 19 rfl) rfl ?_
  refine S_aload_n (dc_X10_isCut 20 rfl) rfl ?_
  refine S_getA (dc_X10_isCut 21 rfl) ho fl_X10_75_8_40 (fun _ _ => rfl) (fun x33 e33 => ?_)
  refine S_iload_n (dc_X10_isCut 22 rfl) rfl ?_
  refine S_iald (dc_X10_isCut 23 rfl) (fun x37 e37 => ?_)
  refine S_aload_n (dc_X10_isCut 24 rfl) rfl ?_
  refine S_getA (dc_X10_isCut 25 rfl) ho fl_X10_75_8_40 (fun _ _ => rfl) (fun x39 e39 => ?_)
  refine S_iload_n (dc_X10_isCut 26 rfl) rfl ?_
  refine S_iald (dc_X10_isCut 27 rfl) (fun x43 e43 => ?_)
  refine S_isub (dc_X10_isCut 28 rfl) ?_
  refine S_iload (dc_X10_isCut 29 rfl) rfl ?_
  refine S_iload (dc_X10_isCut 30 rfl) rfl ?_
  refine S_imul (dc_X10_isCut 31 rfl) ?_
  refine S_iadd (dc_X10_isCut 32 rfl) ?_
  refine S_iload (dc_X10_isCut 33 rfl) rfl ?_
  refine S_iload (dc_X10_isCut 34 rfl) rfl ?_
  refine S_imul (dc_X10_isCut 35 rfl) ?_
  refine S_isub (dc_X10_isCut 36 rfl) ?_
  refine S_roI (d := k_d K - 1) (e_callS (As := [.int (((x37 - x43) + (x21 * x13)) - (x5 * x29))]) (rest := []) ok_X10_size rfl (Nat.le_of_ble_eq_true rfl) (dc_X10_isCut 37 rfl) ho q1823 q1824 rfl (Nat.le_of_ble_eq_true rfl)) (by omega) (fun _ e => ct_X10_size (by omega) e) (fun x57 e57 => ?_)
  refine S_istore (L' := [some (.ref a0), some (.int a1), some (.int a2), some (.int a3), some (.int x5), some (.int x13), some (.int x21), some (.int x29), some (.int x57), none, none, none, none]) (dc_X10_isCut 38 rfl) rfl ?_
  refine S_iconst_ 2 (dc_X10_isCut 39 rfl) rfl ?_
  refine S_iload (dc_X10_isCut 40 rfl) rfl ?_
  refine S_imul (dc_X10_isCut 41 rfl) ?_
  refine S_aload_n (dc_X10_isCut 42 rfl) rfl ?_
  refine S_iload_n (dc_X10_isCut 43 rfl) rfl ?_
  refine S_roI (d := k_d K - 1) (e_callV (b := a0) (As := [.int a1]) (rest := [.int (2 * x57)]) ok_X10_area rfl (Nat.le_of_ble_eq_true rfl) (dc_X10_isCut 44 rfl) ho q1807 q1809 (show e_cl[8]? = some (RX10, TX10, 51) from rfl) (e_sel.of qs56) (e_fA_of e1).1 rfl (Nat.le_of_ble_eq_true rfl)) (by omega) (fun _ e => ct_X10_area (by omega) e) (fun x68 e68 => ?_)
  refine S_icmp_eq 76 (dc_X10_isCut 45 rfl) rfl (fun c71 => ?_) (fun c71 => ?_)
  · refine S_iconst_ 0 (dc_X10_isCut 48 rfl) rfl ?_
    refine S_istore (L' := [some (.ref a0), some (.int a1), some (.int a2), some (.int a3), some (.int x5), some (.int x13), some (.int x21), some (.int x29), some (.int x57), some (.int 0), none, none, none]) (dc_X10_isCut 49 rfl) rfl ?_
    refine Sx.regKE0 (pc2 := 260) (L2 := [some (.ref a0), some (.int a1), none, none, some (.int x5), some (.int x13), some (.int x21), some (.int x29), none, none, none, none, none]) (st2 := []) (h2 := h) ?_ (fun Q1 hK1 hE1 => ?_)
    · skip
      refine S_aload_n (dc_X10_isCut 150 rfl) rfl ?_
      refine S_iload_n (dc_X10_isCut 151 rfl) rfl ?_
      refine S_iload (dc_X10_isCut 152 rfl) rfl ?_
      refine S_iload (dc_X10_isCut 153 rfl) rfl ?_
      refine S_iadd (dc_X10_isCut 154 rfl) ?_
      refine S_iload (dc_X10_isCut 155 rfl) rfl ?_
      refine S_iload (dc_X10_isCut 156 rfl) rfl ?_
      refine S_iadd (dc_X10_isCut 157 rfl) ?_
      refine S_iconst_ 2 (dc_X10_isCut 158 rfl) rfl ?_
      refine S_roI (d := k_d K - 1) (e_callV (b := a0) (As := [.int a1, .int (x5 + x21), .int (x13 + x29), .int 2]) (rest := []) ok_X10_encloses rfl (Nat.le_of_ble_eq_true rfl) (dc_X10_isCut 159 rfl) ho q1869 q1871 (show e_cl[8]? = some (RX10, TX10, 51) from rfl) (e_sel.of qs67) (e_fA_of e1).1 rfl (Nat.le_of_ble_eq_true rfl)) (by omega) (fun _ e => ct_X10_encloses (by omega) e) (fun x273 e273 => ?_)
      refine Sx.cond (fun c276 => ?_)
      exact S_iret (dc_X10_isCut 160 rfl) hT (e_narZ c276).1 (fun q => by cases q; exact hr)
    · have hK1 : Sx K cX10_isCut 260 [some (.ref a0), some (.int a1), none, none, some (.int x5), some (.int x13), some (.int x21), some (.int x29), none, none, none, none, none] [] h (some (.ok ())) Q1 := hK1
      have ih1 : ∀ (n : Nat) (x9_79 : Int32), Sx K cX10_isCut 79 [some (.ref a0), some (.int a1), none, none, some (.int x5), some (.int x13), some (.int x21), some (.int x29), none, some (.int x9_79), none, none, none] [] h (lp_X10_isCut_79 F h a0 a1 x5 x13 x21 x29 n x9_79) Q1 := by
        intro n
        induction n with
        | zero => intro x9_79; exact Sx.none
        | succ n ih1 =>
          intro x9_79
          rw [lp_X10_isCut_79.eq_2]
          refine S_iload (dc_X10_isCut 50 rfl) rfl ?_
          refine S_aload_n (dc_X10_isCut 51 rfl) rfl ?_
          refine S_iload_n (dc_X10_isCut 52 rfl) rfl ?_
          refine S_roI (d := k_d K - 1) (e_callV (b := a0) (As := [.int a1]) (rest := [.int x9_79]) ok_X10_corners rfl (Nat.le_of_ble_eq_true rfl) (dc_X10_isCut 53 rfl) ho q1803 q1805 (show e_cl[8]? = some (RX10, TX10, 51) from rfl) (e_sel.of qs55) (e_fA_of e1).1 rfl (Nat.le_of_ble_eq_true rfl)) (by omega) (fun _ e => ct_X10_corners (by omega) e) (fun x83 e83 => ?_)
          refine S_icmp_ge 260 (dc_X10_isCut 54 rfl) rfl (fun c86 => ?_) (fun c86 => ?_)
          · refine Sx.cut [true, true, true, true, true, true, true, true, true, false, true, true, true] ?_
            exact hK1
          · refine S_aload_n (dc_X10_isCut 55 rfl) rfl ?_
            refine S_iload_n (dc_X10_isCut 56 rfl) rfl ?_
            refine S_iload (dc_X10_isCut 57 rfl) rfl ?_
            refine S_roI (d := k_d K - 1) (e_callV (b := a0) (As := [.int a1, .int x9_79]) (rest := []) ok_X10_x rfl (Nat.le_of_ble_eq_true rfl) (dc_X10_isCut 58 rfl) ho q1815 q1817 (show e_cl[8]? = some (RX10, TX10, 51) from rfl) (e_sel.of qs58) (e_fA_of e1).1 rfl (Nat.le_of_ble_eq_true rfl)) (by omega) (fun _ e => ct_X10_x (by omega) e) (fun x93 e93 => ?_)
            refine S_istore (L' := [some (.ref a0), some (.int a1), none, none, some (.int x5), some (.int x13), some (.int x21), some (.int x29), none, some (.int x9_79), some (.int x93), none, none]) (dc_X10_isCut 59 rfl) rfl ?_
            refine S_aload_n (dc_X10_isCut 60 rfl) rfl ?_
            refine S_iload_n (dc_X10_isCut 61 rfl) rfl ?_
            refine S_iload (dc_X10_isCut 62 rfl) rfl ?_
            refine S_roI (d := k_d K - 1) (e_callV (b := a0) (As := [.int a1, .int x9_79]) (rest := []) ok_X10_y rfl (Nat.le_of_ble_eq_true rfl) (dc_X10_isCut 63 rfl) ho q1819 q1821 (show e_cl[8]? = some (RX10, TX10, 51) from rfl) (e_sel.of qs59) (e_fA_of e1).1 rfl (Nat.le_of_ble_eq_true rfl)) (by omega) (fun _ e => ct_X10_y (by omega) e) (fun x102 e102 => ?_)
            refine S_istore (L' := [some (.ref a0), some (.int a1), none, none, some (.int x5), some (.int x13), some (.int x21), some (.int x29), none, some (.int x9_79), some (.int x93), some (.int x102), none]) (dc_X10_isCut 64 rfl) rfl ?_
            refine S_iload (dc_X10_isCut 65 rfl) rfl ?_
            refine S_iload (dc_X10_isCut 66 rfl) rfl ?_
            refine S_iload (dc_X10_isCut 67 rfl) rfl ?_
            refine S_iload (dc_X10_isCut 68 rfl) rfl ?_
            refine S_iload (dc_X10_isCut 69 rfl) rfl ?_
            refine S_iload (dc_X10_isCut 70 rfl) rfl ?_
            refine S_aload_n (dc_X10_isCut 71 rfl) rfl ?_
            refine S_iload_n (dc_X10_isCut 72 rfl) rfl ?_
            refine S_iload (dc_X10_isCut 73 rfl) rfl ?_
            refine S_iconst_ 1 (dc_X10_isCut 74 rfl) rfl ?_
            refine S_iadd (dc_X10_isCut 75 rfl) ?_
            refine S_roI (d := k_d K - 1) (e_callV (b := a0) (As := [.int a1, .int (x9_79 + 1)]) (rest := [.int x102, .int x93, .int x29, .int x21, .int x13, .int x5]) ok_X10_x rfl (Nat.le_of_ble_eq_true rfl) (dc_X10_isCut 76 rfl) ho q1815 q1817 (show e_cl[8]? = some (RX10, TX10, 51) from rfl) (e_sel.of qs58) (e_fA_of e1).1 rfl (Nat.le_of_ble_eq_true rfl)) (by omega) (fun _ e => ct_X10_x (by omega) e) (fun x125 e125 => ?_)
            refine S_aload_n (dc_X10_isCut 77 rfl) rfl ?_
            refine S_iload_n (dc_X10_isCut 78 rfl) rfl ?_
            refine S_iload (dc_X10_isCut 79 rfl) rfl ?_
            refine S_iconst_ 1 (dc_X10_isCut 80 rfl) rfl ?_
            refine S_iadd (dc_X10_isCut 81 rfl) ?_
            refine S_roI (d := k_d K - 1) (e_callV (b := a0) (As := [.int a1, .int (x9_79 + 1)]) (rest := [.int x125, .int x102, .int x93, .int x29, .int x21, .int x13, .int x5]) ok_X10_y rfl (Nat.le_of_ble_eq_true rfl) (dc_X10_isCut 82 rfl) ho q1819 q1821 (show e_cl[8]? = some (RX10, TX10, 51) from rfl) (e_sel.of qs59) (e_fA_of e1).1 rfl (Nat.le_of_ble_eq_true rfl)) (by omega) (fun _ e => ct_X10_y (by omega) e) (fun x134 e134 => ?_)
            refine S_roI (d := k_d K - 1) (e_callS (As := [.int x5, .int x13, .int x21, .int x29, .int x93, .int x102, .int x125, .int x134]) (rest := []) ok_X10_meet rfl (Nat.le_of_ble_eq_true rfl) (dc_X10_isCut 83 rfl) ho q1759 q1760 rfl (Nat.le_of_ble_eq_true rfl)) (by omega) (fun _ e => ct_X10_meet (by omega) e) (fun x137 e137 => ?_)
            refine S_iconst_ 1 (dc_X10_isCut 84 rfl) rfl ?_
            refine S_icmp_ne 146 (dc_X10_isCut 85 rfl) rfl (fun c141 => ?_) (fun c141 => ?_)
            · refine S_iload (dc_X10_isCut 88 rfl) rfl ?_
              refine S_iload (dc_X10_isCut 89 rfl) rfl ?_
              refine Sx.regK1 (pc2 := 179) (L2 := fun (s179_2 : Int32) => [some (.ref a0), some (.int a1), none, none, some (.int x5), some (.int x13), some (.int x21), some (.int x29), none, some (.int x9_79), some (.int x93), some (.int x102), none]) (st2 := fun (s179_2 : Int32) => [.int s179_2]) (h2 := fun (s179_2 : Int32) => h) ?_ (fun Q2 hK2 => ?_)
              · intro s179_2
                show Sx K cX10_isCut 179 [some (.ref a0), some (.int a1), none, none, some (.int x5), some (.int x13), some (.int x21), some (.int x29), none, some (.int x9_79), some (.int x93), some (.int x102), none] [.int s179_2] h _ _
                refine S_istore (L' := [some (.ref a0), some (.int a1), none, none, some (.int x5), some (.int x13), some (.int x21), some (.int x29), none, some (.int x9_79), some (.int x93), some (.int x102), some (.int s179_2)]) (dc_X10_isCut 103 rfl) rfl ?_
                refine S_iload (dc_X10_isCut 104 rfl) rfl ?_
                refine Sx.regKE0 (pc2 := 206) (L2 := [some (.ref a0), some (.int a1), none, none, some (.int x5), some (.int x13), some (.int x21), some (.int x29), none, some (.int x9_79), some (.int x93), some (.int x102), none]) (st2 := []) (h2 := h) ?_ (fun Q6 hK6 hE6 => ?_)
                · skip
                  refine S_iload (dc_X10_isCut 116 rfl) rfl ?_
                  refine S_iload (dc_X10_isCut 117 rfl) rfl ?_
                  refine S_iadd (dc_X10_isCut 118 rfl) ?_
                  refine S_iload (dc_X10_isCut 119 rfl) rfl ?_
                  refine S_iload (dc_X10_isCut 120 rfl) rfl ?_
                  refine S_iadd (dc_X10_isCut 121 rfl) ?_
                  refine S_iconst_ 2 (dc_X10_isCut 122 rfl) rfl ?_
                  refine S_iload (dc_X10_isCut 123 rfl) rfl ?_
                  refine S_imul (dc_X10_isCut 124 rfl) ?_
                  refine S_iconst_ 2 (dc_X10_isCut 125 rfl) rfl ?_
                  refine S_iload (dc_X10_isCut 126 rfl) rfl ?_
                  refine S_imul (dc_X10_isCut 127 rfl) ?_
                  refine S_iconst_ 2 (dc_X10_isCut 128 rfl) rfl ?_
                  refine S_aload_n (dc_X10_isCut 129 rfl) rfl ?_
                  refine S_iload_n (dc_X10_isCut 130 rfl) rfl ?_
                  refine S_iload (dc_X10_isCut 131 rfl) rfl ?_
                  refine S_iconst_ 1 (dc_X10_isCut 132 rfl) rfl ?_
                  refine S_iadd (dc_X10_isCut 133 rfl) ?_
                  refine S_roI (d := k_d K - 1) (e_callV (b := a0) (As := [.int a1, .int (x9_79 + 1)]) (rest := [.int 2, .int (2 * x102), .int (2 * x93), .int (x13 + x29), .int (x5 + x21)]) ok_X10_x rfl (Nat.le_of_ble_eq_true rfl) (dc_X10_isCut 134 rfl) ho q1815 q1817 (show e_cl[8]? = some (RX10, TX10, 51) from rfl) (e_sel.of qs58) (e_fA_of e1).1 rfl (Nat.le_of_ble_eq_true rfl)) (by omega) (fun _ e => ct_X10_x (by omega) e) (fun x231 e231 => ?_)
                  refine S_imul (dc_X10_isCut 135 rfl) ?_
                  refine S_iconst_ 2 (dc_X10_isCut 136 rfl) rfl ?_
                  refine S_aload_n (dc_X10_isCut 137 rfl) rfl ?_
                  refine S_iload_n (dc_X10_isCut 138 rfl) rfl ?_
                  refine S_iload (dc_X10_isCut 139 rfl) rfl ?_
                  refine S_iconst_ 1 (dc_X10_isCut 140 rfl) rfl ?_
                  refine S_iadd (dc_X10_isCut 141 rfl) ?_
                  refine S_roI (d := k_d K - 1) (e_callV (b := a0) (As := [.int a1, .int (x9_79 + 1)]) (rest := [.int 2, .int (2 * x231), .int (2 * x102), .int (2 * x93), .int (x13 + x29), .int (x5 + x21)]) ok_X10_y rfl (Nat.le_of_ble_eq_true rfl) (dc_X10_isCut 142 rfl) ho q1819 q1821 (show e_cl[8]? = some (RX10, TX10, 51) from rfl) (e_sel.of qs59) (e_fA_of e1).1 rfl (Nat.le_of_ble_eq_true rfl)) (by omega) (fun _ e => ct_X10_y (by omega) e) (fun x242 e242 => ?_)
                  refine S_imul (dc_X10_isCut 143 rfl) ?_
                  refine S_roI (d := k_d K - 1) (e_callS (As := [.int (x5 + x21), .int (x13 + x29), .int (2 * x93), .int (2 * x102), .int (2 * x231), .int (2 * x242)]) (rest := []) ok_X10_isOnSide rfl (Nat.le_of_ble_eq_true rfl) (dc_X10_isCut 144 rfl) ho q1762 q1763 rfl (Nat.le_of_ble_eq_true rfl)) (by omega) (fun _ e => ct_X10_isOnSide (by omega) e) (fun x246 e246 => ?_)
                  refine S_if_eq 254 (dc_X10_isCut 145 rfl) rfl (fun c249 => ?_) (fun c249 => ?_)
                  · refine S_iincN 1 (L' := fun x254 => [some (.ref a0), some (.int a1), none, none, some (.int x5), some (.int x13), some (.int x21), some (.int x29), none, some (.int x254), some (.int x93), some (.int x102), none]) (dc_X10_isCut 148 rfl) rfl rfl (fun _ => rfl) (fun x254 n254 => ?_)
                    refine S_goto 79 (dc_X10_isCut 149 rfl) rfl ?_
                    refine Sx.cut [true, true, true, true, true, true, true, true, true, true, false, false, true] ?_
                    exact ih1 x254
                  · refine S_iconst_ 0 (dc_X10_isCut 146 rfl) rfl ?_
                    refine Sx.err hE1 ?_
                    exact S_iret (dc_X10_isCut 147 rfl) hT rfl (fun q => by cases q; exact hr)
                · have hK6 : Sx K cX10_isCut 206 [some (.ref a0), some (.int a1), none, none, some (.int x5), some (.int x13), some (.int x21), some (.int x29), none, some (.int x9_79), some (.int x93), some (.int x102), none] [] h (some (.ok ())) Q6 := hK6
                  refine S_if_ne 206 (dc_X10_isCut 105 rfl) rfl (fun c183 => ?_) (fun c183 => ?_)
                  · refine Sx.cut [true, true, true, true, true, true, true, true, true, true, true, true, false] ?_
                    exact hK6
                  · refine S_iload (dc_X10_isCut 106 rfl) rfl ?_
                    refine S_iload (dc_X10_isCut 107 rfl) rfl ?_
                    refine S_iload (dc_X10_isCut 108 rfl) rfl ?_
                    refine S_iload (dc_X10_isCut 109 rfl) rfl ?_
                    refine S_iload (dc_X10_isCut 110 rfl) rfl ?_
                    refine S_iload (dc_X10_isCut 111 rfl) rfl ?_
                    refine S_roI (d := k_d K - 1) (e_callS (As := [.int x93, .int x102, .int x5, .int x13, .int x21, .int x29]) (rest := []) ok_X10_isOnSide rfl (Nat.le_of_ble_eq_true rfl) (dc_X10_isCut 112 rfl) ho q1762 q1763 rfl (Nat.le_of_ble_eq_true rfl)) (by omega) (fun _ e => ct_X10_isOnSide (by omega) e) (fun x198 e198 => ?_)
                    refine S_if_eq 206 (dc_X10_isCut 113 rfl) rfl (fun c201 => ?_) (fun c201 => ?_)
                    · refine Sx.cut [true, true, true, true, true, true, true, true, true, true, true, true, false] ?_
                      exact hK6
                    · refine S_iconst_ 0 (dc_X10_isCut 114 rfl) rfl ?_
                      refine Sx.err hE6 ?_
                      refine Sx.err hE1 ?_
                      exact S_iret (dc_X10_isCut 115 rfl) hT rfl (fun q => by cases q; exact hr)
              · have hK2 : ∀ (s179_2 : Int32), Sx K cX10_isCut 179 [some (.ref a0), some (.int a1), none, none, some (.int x5), some (.int x13), some (.int x21), some (.int x29), none, some (.int x9_79), some (.int x93), some (.int x102), none] [.int s179_2] h (some s179_2) Q2 := hK2
                refine Sx.regKE0 (pc2 := 174) (L2 := [some (.ref a0), some (.int a1), none, none, some (.int x5), some (.int x13), some (.int x21), some (.int x29), none, some (.int x9_79), some (.int x93), some (.int x102), none]) (st2 := []) (h2 := h) ?_ (fun Q3 hK3 hE3 => ?_)
                · skip
                  refine S_iconst_ 1 (dc_X10_isCut 100 rfl) rfl ?_
                  refine S_goto 179 (dc_X10_isCut 101 rfl) rfl ?_
                  exact hK2 1
                · have hK3 : Sx K cX10_isCut 174 [some (.ref a0), some (.int a1), none, none, some (.int x5), some (.int x13), some (.int x21), some (.int x29), none, some (.int x9_79), some (.int x93), some (.int x102), none] [] h (some (.ok ())) Q3 := hK3
                  refine Sx.regKE0 (pc2 := 160) (L2 := [some (.ref a0), some (.int a1), none, none, some (.int x5), some (.int x13), some (.int x21), some (.int x29), none, some (.int x9_79), some (.int x93), some (.int x102), none]) (st2 := []) (h2 := h) ?_ (fun Q4 hK4 hE4 => ?_)
                  · skip
                    refine S_iload (dc_X10_isCut 94 rfl) rfl ?_
                    refine S_iload (dc_X10_isCut 95 rfl) rfl ?_
                    refine Sx.regKE0 (pc2 := 178) (L2 := [some (.ref a0), some (.int a1), none, none, some (.int x5), some (.int x13), some (.int x21), some (.int x29), none, some (.int x9_79), some (.int x93), some (.int x102), none]) (st2 := []) (h2 := h) ?_ (fun Q5 hK5 hE5 => ?_)
                    · skip
                      refine S_iconst_ 0 (dc_X10_isCut 102 rfl) rfl ?_
                      refine Sx.err hE3 ?_
                      exact hK2 0
                    · have hK5 : Sx K cX10_isCut 178 [some (.ref a0), some (.int a1), none, none, some (.int x5), some (.int x13), some (.int x21), some (.int x29), none, some (.int x9_79), some (.int x93), some (.int x102), none] [] h (some (.ok ())) Q5 := hK5
                      refine S_icmp_ne 178 (dc_X10_isCut 96 rfl) rfl (fun c164 => ?_) (fun c164 => ?_)
                      · exact hK5
                      · refine S_iload (dc_X10_isCut 97 rfl) rfl ?_
                        refine S_iload (dc_X10_isCut 98 rfl) rfl ?_
                        refine S_icmp_ne 178 (dc_X10_isCut 99 rfl) rfl (fun c171 => ?_) (fun c171 => ?_)
                        · exact hK5
                        · refine Sx.err hE5 ?_
                          exact hK3
                  · have hK4 : Sx K cX10_isCut 160 [some (.ref a0), some (.int a1), none, none, some (.int x5), some (.int x13), some (.int x21), some (.int x29), none, some (.int x9_79), some (.int x93), some (.int x102), none] [] h (some (.ok ())) Q4 := hK4
                    refine S_icmp_ne 160 (dc_X10_isCut 90 rfl) rfl (fun c150 => ?_) (fun c150 => ?_)
                    · exact hK4
                    · refine S_iload (dc_X10_isCut 91 rfl) rfl ?_
                      refine S_iload (dc_X10_isCut 92 rfl) rfl ?_
                      refine S_icmp_eq 174 (dc_X10_isCut 93 rfl) rfl (fun c157 => ?_) (fun c157 => ?_)
                      · refine Sx.err hE4 ?_
                        exact hK3
                      · exact hK4
            · refine S_iconst_ 0 (dc_X10_isCut 86 rfl) rfl ?_
              refine Sx.err hE1 ?_
              exact S_iret (dc_X10_isCut 87 rfl) hT rfl (fun q => by cases q; exact hr)
      refine Sx.cut [true, true, false, false, true, true, true, true, false, true, true, true, true] ?_
      exact ih1 F 0
  · refine S_iconst_ 0 (dc_X10_isCut 46 rfl) rfl ?_
    exact S_iret (dc_X10_isCut 47 rfl) hT rfl (fun q => by cases q; exact hr)
abbrev cX10_cuts : ByteArray := prog_18_method_114_code
def yX10_cuts : MethodName := ⟨"PegBandsModel", "cuts", "(II)I"⟩
def tb_X10_cuts : List (Nat × Instr × Nat) := [(0, .aload_n 0, 1), (1, .iconst 0, 1), (2, .putfield 94, 3), (5, .aload_n 0, 1), (6, .iload_n 1, 1), (7, .invokevirtual 304, 3), (10, .ifCond .ne 5, 3), (13, .iconst (-1), 1), (14, .ireturn, 1), (15, .aload_n 0, 1), (16, .iload_n 1, 1), (17, .invokevirtual 414, 3), (20, .istore_n 3, 1), (21, .iconst 0, 1), (22, .istore 4, 2), (24, .iconst 0, 1), (25, .istore 5, 2), (27, .iload 5, 2), (29, .iload_n 3, 1), (30, .if_icmp .ge 92, 3), (33, .iload 5, 2), (35, .iconst 1, 1), (36, .iadd, 1), (37, .istore 6, 2), (39, .iload 6, 2), (41, .iload_n 3, 1), (42, .if_icmp .ge 74, 3), (45, .aload_n 0, 1), (46, .iload_n 1, 1), (47, .iload 5, 2), (49, .iload 6, 2), (51, .invokevirtual 417, 3), (54, .ifCond .ne 6, 3), (57, .goto 53, 3), (60, .iload 4, 2), (62, .iload_n 2, 1), (63, .if_icmp .ne 44, 3), (66, .bipush 100, 2), (68, .bipush 10, 2), (70, .aload_n 0, 1), (71, .getfield 72, 3), (74, .iload 5, 2), (76, .iaload, 1), (77, .imul, 1), (78, .aload_n 0, 1), (79, .getfield 69, 3), (82, .iload 5, 2), (84, .iaload, 1), (85, .iadd, 1), (86, .imul, 1), (87, .bipush 10, 2), (89, .aload_n 0, 1), (90, .getfield 72, 3), (93, .iload 6, 2), (95, .iaload, 1), (96, .imul, 1), (97, .iadd, 1), (98, .aload_n 0, 1), (99, .getfield 69, 3), (102, .iload 6, 2), (104, .iaload, 1), (105, .iadd, 1), (106, .ireturn, 1), (107, .iinc 4 1, 3), (110, .iinc 6 1, 3), (113, .goto (-74), 3), (116, .iinc 5 1, 3), (119, .goto (-92), 3), (122, .iload_n 2, 1), (123, .iconst (-1), 1), (124, .if_icmp .ne 8, 3), (127, .iload 4, 2), (129, .goto 4, 3), (132, .iconst (-1), 1), (133, .ireturn, 1)]
theorem tk_X10_cuts : ∀ q ∈ tb_X10_cuts, decode cX10_cuts q.1 = .ok q.2 := by decide +kernel
theorem dc_X10_cuts (k : Nat) {pc n : Nat} {i : Instr} (h : tb_X10_cuts[k]? = some (pc, i, n)) : decode cX10_cuts pc = .ok (i, n) := tk_X10_cuts (pc, i, n) (List.mem_of_getElem? h)
abbrev mX10_cuts : e_M := (yX10_cuts, cX10_cuts, 7, some (.int), [])
theorem ok_X10_cuts : e_mok mX10_cuts 2 := ⟨q2043, q119, by decide +kernel, fun sig h => by cases h; rfl⟩
def lp_X10_cuts_39 (F : Nat) (h17 : e_H) (a0 : Nat) (a1 : Int32) (a2 : Int32) (x17 : Int32) (x5_27 : Int32) : Nat → Int32 → Int32 → Option (Except (Except (Int32 × e_H) Int32) Int32)
  | 0, _, _ => none
  | n + 1, x4_39, x6_39 =>
    if x17 ≤ x6_39 then
      some (.ok x4_39)
    else
      Option.bind (e_is h17 a0 8) (fun _ =>
      Option.bind (f_X10_isCut F h17 a0 a1 x5_27 x6_39) (fun x51 =>
      e_bE (
          if x51 = 0 then
            some (.ok x4_39)
          else
            if x4_39 = a2 then
              Option.bind (e_fA h17 a0 8 39) (fun x71 =>
              Option.bind (e_aI h17 x71 0 x5_27) (fun x76 =>
              Option.bind (e_fA h17 a0 8 38) (fun x79 =>
              Option.bind (e_aI h17 x79 0 x5_27) (fun x84 =>
              Option.bind (e_fA h17 a0 8 39) (fun x90 =>
              Option.bind (e_aI h17 x90 0 x6_39) (fun x95 =>
              Option.bind (e_fA h17 a0 8 38) (fun x99 =>
              Option.bind (e_aI h17 x99 0 x6_39) (fun x104 =>
              some (.error (.error (.error ((((100 * ((10 * x76) + x84)) + (10 * x95)) + x104), h17))))))))))))
            else
              Option.bind (some (x4_39 + 1)) (fun x107 =>
              some (.ok x107))
        : Option (Except (Except (Except (Int32 × e_H) Int32) Int32) Int32)) (fun x4_110_3 =>
      Option.bind (some (x6_39 + 1)) (fun x110 =>
      lp_X10_cuts_39 F h17 a0 a1 a2 x17 x5_27 n x4_110_3 x110))))
def lp_X10_cuts_27 (F : Nat) (h17 : e_H) (a0 : Nat) (a1 : Int32) (a2 : Int32) (x17 : Int32) : Nat → Int32 → Int32 → Option (Except (Int32 × e_H) Int32)
  | 0, _, _ => none
  | n + 1, x4_27, x5_27 =>
    if x17 ≤ x5_27 then
      some (.ok x4_27)
    else
      Option.bind (some (x5_27 + 1)) (fun x37 =>
      e_bE (
          lp_X10_cuts_39 F h17 a0 a1 a2 x17 x5_27 F x4_27 x37
        : Option (Except (Except (Int32 × e_H) Int32) Int32)) (fun x4_116_2 =>
      Option.bind (some (x5_27 + 1)) (fun x116 =>
      lp_X10_cuts_27 F h17 a0 a1 a2 x17 n x4_116_2 x116)))
def f_X10_cuts (F : Nat) (h : e_H) (a0 : Nat) (a1 : Int32) (a2 : Int32) : Option (Int32 × e_H) :=
  Option.bind (e_gI h a0 8 0 0) (fun h2 =>
  Option.bind (e_is h2 a0 8) (fun _ =>
  Option.bind (f_X10_isBand h2 a0 a1) (fun x7 =>
  if x7 = 0 then
    some ((-1), h2)
  else
    e_b2 (f_X10_layAlong F h2 a0 a1) (fun x17 h17 =>
    e_bE (
        lp_X10_cuts_27 F h17 a0 a1 a2 x17 F 0 0
      : Option (Except (Int32 × e_H) Int32)) (fun x4_122_1 =>
    if a2 = (-1) then
      some (x4_122_1, h17)
    else
      some ((-1), h17))))))
set_option maxHeartbeats 4000000 in
set_option maxRecDepth 100000 in
theorem ct_X10_cuts {l : Launch} {D : e_D} {B : Heap} {F : Nat} {d : Nat} {h : e_H} {a0 : Nat} {a1 : Int32} {a2 : Int32} {v : Int32} {h1 : e_H} (hd : 7 ≤ d) (e : f_X10_cuts F h a0 a1 a2 = some (v, h1)) : e_Run l D B d mX10_cuts [.ref a0, .int a1, .int a2] h (.ok (some (.int v)), h1) := by
  refine e_start [some (.ref a0), some (.int a1), some (.int a2), none, none, none, none] (by decide) rfl rfl rfl (Nat.le_of_ble_eq_true rfl) (fun K hl0 hD0 hB0 hM hd0 hr => ?_)
  subst hl0 hD0 hB0 hd0
  have ho : (k_M K).1.cls = "PegBandsModel" := by rw [hM]; rfl
  have hT : (k_M K).2.2.2.1 = some (.int) := by rw [hM]
  refine (show Sx K cX10_cuts 0 [some (.ref a0), some (.int a1), some (.int a2), none, none, none, none] [] h (f_X10_cuts F h a0 a1 a2) (fun w => w = (v, h1)) from ?_) _ e rfl
  clear e
  unfold f_X10_cuts
  refine S_aload_n (dc_X10_cuts 0 rfl) rfl ?_
  refine S_iconst_ 0 (dc_X10_cuts 1 rfl) rfl ?_
  refine S_putI (dc_X10_cuts 2 rfl) ho fl_X10_94_8_0 (fun _ _ => rfl) (Or.inl rfl) rfl rfl (fun h2 e2 => ?_)
  refine S_aload_n (dc_X10_cuts 3 rfl) rfl ?_
  refine S_iload_n (dc_X10_cuts 4 rfl) rfl ?_
  refine Sx.ask (fun _ i7 => ?_)
  refine S_roI (d := k_d K - 1) (e_callV (b := a0) (As := [.int a1]) (rest := []) ok_X10_isBand rfl (Nat.le_of_ble_eq_true rfl) (dc_X10_cuts 5 rfl) ho q1791 q1793 (show e_cl[8]? = some (RX10, TX10, 51) from rfl) (e_sel.of qs52) (e_is_of i7) rfl (Nat.le_of_ble_eq_true rfl)) (by omega) (fun _ e => ct_X10_isBand (by omega) e) (fun x7 e7 => ?_)
  refine S_if_ne 15 (dc_X10_cuts 6 rfl) rfl (fun c10 => ?_) (fun c10 => ?_)
  · refine S_aload_n (dc_X10_cuts 9 rfl) rfl ?_
    refine S_iload_n (dc_X10_cuts 10 rfl) rfl ?_
    refine S_rwI (d := k_d K - 1) (e_callV (b := a0) (As := [.int a1]) (rest := []) ok_X10_layAlong rfl (Nat.le_of_ble_eq_true rfl) (dc_X10_cuts 11 rfl) ho q2044 q2046 (show e_cl[8]? = some (RX10, TX10, 51) from rfl) (e_sel.of qs88) (e_is_of i7) rfl (Nat.le_of_ble_eq_true rfl)) (by omega) (fun _ _ e => ct_X10_layAlong (by omega) e) (fun x17 h17 e17 => ?_)
    refine S_istore_n (L' := [some (.ref a0), some (.int a1), some (.int a2), some (.int x17), none, none, none]) (dc_X10_cuts 12 rfl) rfl ?_
    refine S_iconst_ 0 (dc_X10_cuts 13 rfl) rfl ?_
    refine S_istore (L' := [some (.ref a0), some (.int a1), some (.int a2), some (.int x17), some (.int 0), none, none]) (dc_X10_cuts 14 rfl) rfl ?_
    refine S_iconst_ 0 (dc_X10_cuts 15 rfl) rfl ?_
    refine S_istore (L' := [some (.ref a0), some (.int a1), some (.int a2), some (.int x17), some (.int 0), some (.int 0), none]) (dc_X10_cuts 16 rfl) rfl ?_
    refine Sx.regKE1 (pc2 := 122) (L2 := fun (x4_122_1 : Int32) => [none, none, some (.int a2), none, some (.int x4_122_1), none, none]) (st2 := fun (x4_122_1 : Int32) => []) (h2 := fun (x4_122_1 : Int32) => h17) ?_ (fun Q1 hK1 hE1 => ?_)
    · intro x4_122_1
      show Sx K cX10_cuts 122 [none, none, some (.int a2), none, some (.int x4_122_1), none, none] [] h17 _ _
      refine S_iload_n (dc_X10_cuts 68 rfl) rfl ?_
      refine S_iconst_ (-1) (dc_X10_cuts 69 rfl) rfl ?_
      refine S_icmp_ne 132 (dc_X10_cuts 70 rfl) rfl (fun c124 => ?_) (fun c124 => ?_)
      · refine S_iconst_ (-1) (dc_X10_cuts 73 rfl) rfl ?_
        exact S_iret (dc_X10_cuts 74 rfl) hT rfl (e_rqI hr)
      · refine S_iload (dc_X10_cuts 71 rfl) rfl ?_
        refine S_goto 133 (dc_X10_cuts 72 rfl) rfl ?_
        exact S_iret (dc_X10_cuts 74 rfl) hT rfl (e_rqI hr)
    · have hK1 : ∀ (x4_122_1 : Int32), Sx K cX10_cuts 122 [none, none, some (.int a2), none, some (.int x4_122_1), none, none] [] h17 (some (.ok x4_122_1)) Q1 := hK1
      have ih1 : ∀ (n : Nat) (x4_27 : Int32) (x5_27 : Int32), Sx K cX10_cuts 27 [some (.ref a0), some (.int a1), some (.int a2), some (.int x17), some (.int x4_27), some (.int x5_27), none] [] h17 (lp_X10_cuts_27 F h17 a0 a1 a2 x17 n x4_27 x5_27) Q1 := by
        intro n
        induction n with
        | zero => intro x4_27 x5_27; exact Sx.none
        | succ n ih1 =>
          intro x4_27 x5_27
          rw [lp_X10_cuts_27.eq_2]
          refine S_iload (dc_X10_cuts 17 rfl) rfl ?_
          refine S_iload_n (dc_X10_cuts 18 rfl) rfl ?_
          refine S_icmp_ge 122 (dc_X10_cuts 19 rfl) rfl (fun c30 => ?_) (fun c30 => ?_)
          · refine Sx.cut [false, false, true, false, true, false, true] ?_
            exact hK1 x4_27
          · refine S_iload (dc_X10_cuts 20 rfl) rfl ?_
            refine S_iconst_ 1 (dc_X10_cuts 21 rfl) rfl ?_
            refine S_iadd (dc_X10_cuts 22 rfl) ?_
            refine Sx.nameI (fun x37 n37 => ?_)
            refine S_istore (L' := [some (.ref a0), some (.int a1), some (.int a2), some (.int x17), some (.int x4_27), some (.int x5_27), some (.int x37)]) (dc_X10_cuts 23 rfl) rfl ?_
            refine Sx.regKE1 (pc2 := 116) (L2 := fun (x4_116_2 : Int32) => [some (.ref a0), some (.int a1), some (.int a2), some (.int x17), some (.int x4_116_2), some (.int x5_27), none]) (st2 := fun (x4_116_2 : Int32) => []) (h2 := fun (x4_116_2 : Int32) => h17) ?_ (fun Q2 hK2 hE2 => ?_)
            · intro x4_116_2
              show Sx K cX10_cuts 116 [some (.ref a0), some (.int a1), some (.int a2), some (.int x17), some (.int x4_116_2), some (.int x5_27), none] [] h17 _ _
              refine S_iincN 1 (L' := fun x116 => [some (.ref a0), some (.int a1), some (.int a2), some (.int x17), some (.int x4_116_2), some (.int x116), none]) (dc_X10_cuts 66 rfl) rfl rfl (fun _ => rfl) (fun x116 n116 => ?_)
              refine S_goto 27 (dc_X10_cuts 67 rfl) rfl ?_
              exact ih1 x4_116_2 x116
            · have hK2 : ∀ (x4_116_2 : Int32), Sx K cX10_cuts 116 [some (.ref a0), some (.int a1), some (.int a2), some (.int x17), some (.int x4_116_2), some (.int x5_27), none] [] h17 (some (.ok x4_116_2)) Q2 := hK2
              have ih2 : ∀ (n : Nat) (x4_39 : Int32) (x6_39 : Int32), Sx K cX10_cuts 39 [some (.ref a0), some (.int a1), some (.int a2), some (.int x17), some (.int x4_39), some (.int x5_27), some (.int x6_39)] [] h17 (lp_X10_cuts_39 F h17 a0 a1 a2 x17 x5_27 n x4_39 x6_39) Q2 := by
                intro n
                induction n with
                | zero => intro x4_39 x6_39; exact Sx.none
                | succ n ih2 =>
                  intro x4_39 x6_39
                  rw [lp_X10_cuts_39.eq_2]
                  refine S_iload (dc_X10_cuts 24 rfl) rfl ?_
                  refine S_iload_n (dc_X10_cuts 25 rfl) rfl ?_
                  refine S_icmp_ge 116 (dc_X10_cuts 26 rfl) rfl (fun c42 => ?_) (fun c42 => ?_)
                  · refine Sx.cut [true, true, true, true, true, true, false] ?_
                    exact hK2 x4_39
                  · refine S_aload_n (dc_X10_cuts 27 rfl) rfl ?_
                    refine S_iload_n (dc_X10_cuts 28 rfl) rfl ?_
                    refine S_iload (dc_X10_cuts 29 rfl) rfl ?_
                    refine S_iload (dc_X10_cuts 30 rfl) rfl ?_
                    refine Sx.ask (fun _ i51 => ?_)
                    refine S_roI (d := k_d K - 1) (e_callV (b := a0) (As := [.int a1, .int x5_27, .int x6_39]) (rest := []) ok_X10_isCut rfl (Nat.le_of_ble_eq_true rfl) (dc_X10_cuts 31 rfl) ho q2048 q2050 (show e_cl[8]? = some (RX10, TX10, 51) from rfl) (e_sel.of qs89) (e_is_of i51) rfl (Nat.le_of_ble_eq_true rfl)) (by omega) (fun _ e => ct_X10_isCut (by omega) e) (fun x51 e51 => ?_)
                    refine Sx.regKE1 (pc2 := 110) (L2 := fun (x4_110_3 : Int32) => [some (.ref a0), some (.int a1), some (.int a2), some (.int x17), some (.int x4_110_3), some (.int x5_27), some (.int x6_39)]) (st2 := fun (x4_110_3 : Int32) => []) (h2 := fun (x4_110_3 : Int32) => h17) ?_ (fun Q3 hK3 hE3 => ?_)
                    · intro x4_110_3
                      show Sx K cX10_cuts 110 [some (.ref a0), some (.int a1), some (.int a2), some (.int x17), some (.int x4_110_3), some (.int x5_27), some (.int x6_39)] [] h17 _ _
                      refine S_iincN 1 (L' := fun x110 => [some (.ref a0), some (.int a1), some (.int a2), some (.int x17), some (.int x4_110_3), some (.int x5_27), some (.int x110)]) (dc_X10_cuts 64 rfl) rfl rfl (fun _ => rfl) (fun x110 n110 => ?_)
                      refine S_goto 39 (dc_X10_cuts 65 rfl) rfl ?_
                      exact ih2 x4_110_3 x110
                    · have hK3 : ∀ (x4_110_3 : Int32), Sx K cX10_cuts 110 [some (.ref a0), some (.int a1), some (.int a2), some (.int x17), some (.int x4_110_3), some (.int x5_27), some (.int x6_39)] [] h17 (some (.ok x4_110_3)) Q3 := hK3
                      refine S_if_ne 60 (dc_X10_cuts 32 rfl) rfl (fun c54 => ?_) (fun c54 => ?_)
                      · refine S_iload (dc_X10_cuts 34 rfl) rfl ?_
                        refine S_iload_n (dc_X10_cuts 35 rfl) rfl ?_
                        refine S_icmp_ne 107 (dc_X10_cuts 36 rfl) rfl (fun c63 => ?_) (fun c63 => ?_)
                        · refine S_iincN 1 (L' := fun x107 => [some (.ref a0), some (.int a1), some (.int a2), some (.int x17), some (.int x107), some (.int x5_27), some (.int x6_39)]) (dc_X10_cuts 63 rfl) rfl rfl (fun _ => rfl) (fun x107 n107 => ?_)
                          exact hK3 x107
                        · refine S_bipush_ 100 (dc_X10_cuts 37 rfl) rfl ?_
                          refine S_bipush_ 10 (dc_X10_cuts 38 rfl) rfl ?_
                          refine S_aload_n (dc_X10_cuts 39 rfl) rfl ?_
                          refine S_getA (dc_X10_cuts 40 rfl) ho fl_X10_72_8_39 (fun _ _ => rfl) (fun x71 e71 => ?_)
                          refine S_iload (dc_X10_cuts 41 rfl) rfl ?_
                          refine S_iald (dc_X10_cuts 42 rfl) (fun x76 e76 => ?_)
                          refine S_imul (dc_X10_cuts 43 rfl) ?_
                          refine S_aload_n (dc_X10_cuts 44 rfl) rfl ?_
                          refine S_getA (dc_X10_cuts 45 rfl) ho fl_X10_69_8_38 (fun _ _ => rfl) (fun x79 e79 => ?_)
                          refine S_iload (dc_X10_cuts 46 rfl) rfl ?_
                          refine S_iald (dc_X10_cuts 47 rfl) (fun x84 e84 => ?_)
                          refine S_iadd (dc_X10_cuts 48 rfl) ?_
                          refine S_imul (dc_X10_cuts 49 rfl) ?_
                          refine S_bipush_ 10 (dc_X10_cuts 50 rfl) rfl ?_
                          refine S_aload_n (dc_X10_cuts 51 rfl) rfl ?_
                          refine S_getA (dc_X10_cuts 52 rfl) ho fl_X10_72_8_39 (fun _ _ => rfl) (fun x90 e90 => ?_)
                          refine S_iload (dc_X10_cuts 53 rfl) rfl ?_
                          refine S_iald (dc_X10_cuts 54 rfl) (fun x95 e95 => ?_)
                          refine S_imul (dc_X10_cuts 55 rfl) ?_
                          refine S_iadd (dc_X10_cuts 56 rfl) ?_
                          refine S_aload_n (dc_X10_cuts 57 rfl) rfl ?_
                          refine S_getA (dc_X10_cuts 58 rfl) ho fl_X10_69_8_38 (fun _ _ => rfl) (fun x99 e99 => ?_)
                          refine S_iload (dc_X10_cuts 59 rfl) rfl ?_
                          refine S_iald (dc_X10_cuts 60 rfl) (fun x104 e104 => ?_)
                          refine S_iadd (dc_X10_cuts 61 rfl) ?_
                          refine Sx.err hE3 ?_
                          refine Sx.err hE2 ?_
                          refine Sx.err hE1 ?_
                          exact S_iret (dc_X10_cuts 62 rfl) hT rfl (e_rqI hr)
                      · refine S_goto 110 (dc_X10_cuts 33 rfl) rfl ?_
                        exact hK3 x4_39
              exact ih2 F x4_27 x37
      exact ih1 F 0 0
  · refine S_iconst_ (-1) (dc_X10_cuts 7 rfl) rfl ?_
    exact S_iret (dc_X10_cuts 8 rfl) hT rfl (e_rqI hr)
abbrev cX10_placeOf : ByteArray := prog_18_method_115_code
def yX10_placeOf : MethodName := ⟨"PegBandsModel", "placeOf", "(II)I"⟩
def tb_X10_placeOf : List (Nat × Instr × Nat) := [(0, .aload_n 0, 1), (1, .getfield 13, 3), (4, .iconst 0, 1), (5, .iaload, 1), (6, .iload_n 2, 1), (7, .imul, 1), (8, .iload_n 1, 1), (9, .iadd, 1), (10, .ireturn, 1)]
theorem tk_X10_placeOf : ∀ q ∈ tb_X10_placeOf, decode cX10_placeOf q.1 = .ok q.2 := by decide +kernel
theorem dc_X10_placeOf (k : Nat) {pc n : Nat} {i : Instr} (h : tb_X10_placeOf[k]? = some (pc, i, n)) : decode cX10_placeOf pc = .ok (i, n) := tk_X10_placeOf (pc, i, n) (List.mem_of_getElem? h)
abbrev mX10_placeOf : e_M := (yX10_placeOf, cX10_placeOf, 3, some (.int), [])
theorem ok_X10_placeOf : e_mok mX10_placeOf 2 := ⟨q2063, q119, by decide +kernel, fun sig h => by cases h; rfl⟩
def f_X10_placeOf (h : e_H) (a0 : Nat) (a1 : Int32) (a2 : Int32) : Option Int32 :=
  Option.bind (e_fA h a0 8 15) (fun x1 =>
  Option.bind (e_aI h x1 0 0) (fun x5 =>
  some ((x5 * a2) + a1)))
set_option maxHeartbeats 4000000 in
set_option maxRecDepth 100000 in
theorem ct_X10_placeOf {l : Launch} {D : e_D} {B : Heap} {d : Nat} {h : e_H} {a0 : Nat} {a1 : Int32} {a2 : Int32} {v : Int32} (hd : 1 ≤ d) (e : f_X10_placeOf h a0 a1 a2 = some v) : e_Run l D B d mX10_placeOf [.ref a0, .int a1, .int a2] h (.ok (some (.int v)), h) := by
  refine e_start [some (.ref a0), some (.int a1), some (.int a2)] (by decide) rfl rfl rfl (Nat.le_of_ble_eq_true rfl) (fun K hl0 hD0 hB0 hM hd0 hr => ?_)
  subst hl0 hD0 hB0 hd0
  have ho : (k_M K).1.cls = "PegBandsModel" := by rw [hM]; rfl
  have hT : (k_M K).2.2.2.1 = some (.int) := by rw [hM]
  refine (show Sx K cX10_placeOf 0 [some (.ref a0), some (.int a1), some (.int a2)] [] h (f_X10_placeOf h a0 a1 a2) (fun w => w = v) from ?_) _ e rfl
  clear e
  unfold f_X10_placeOf
  refine S_aload_n (dc_X10_placeOf 0 rfl) rfl ?_
  refine S_getA (dc_X10_placeOf 1 rfl) ho fl_X10_13_8_15 (fun _ _ => rfl) (fun x1 e1 => ?_)
  refine S_iconst_ 0 (dc_X10_placeOf 2 rfl) rfl ?_
  refine S_iald (dc_X10_placeOf 3 rfl) (fun x5 e5 => ?_)
  refine S_iload_n (dc_X10_placeOf 4 rfl) rfl ?_
  refine S_imul (dc_X10_placeOf 5 rfl) ?_
  refine S_iload_n (dc_X10_placeOf 6 rfl) rfl ?_
  refine S_iadd (dc_X10_placeOf 7 rfl) ?_
  exact S_iret (dc_X10_placeOf 8 rfl) hT rfl (fun q => by cases q; exact hr)
abbrev cX10_stateOf : ByteArray := prog_18_method_116_code
def yX10_stateOf : MethodName := ⟨"PegBandsModel", "stateOf", "(I)I"⟩
def tb_X10_stateOf : List (Nat × Instr × Nat) := [(0, .bipush 36, 2), (2, .bipush 36, 2), (4, .aload_n 0, 1), (5, .aload_n 0, 1), (6, .iload_n 1, 1), (7, .iconst 0, 1), (8, .invokevirtual 285, 3), (11, .aload_n 0, 1), (12, .iload_n 1, 1), (13, .iconst 0, 1), (14, .invokevirtual 289, 3), (17, .invokevirtual 420, 3), (20, .imul, 1), (21, .aload_n 0, 1), (22, .aload_n 0, 1), (23, .iload_n 1, 1), (24, .iconst 1, 1), (25, .invokevirtual 285, 3), (28, .aload_n 0, 1), (29, .iload_n 1, 1), (30, .iconst 1, 1), (31, .invokevirtual 289, 3), (34, .invokevirtual 420, 3), (37, .iadd, 1), (38, .imul, 1), (39, .aload_n 0, 1), (40, .aload_n 0, 1), (41, .iload_n 1, 1), (42, .iconst 2, 1), (43, .invokevirtual 285, 3), (46, .aload_n 0, 1), (47, .iload_n 1, 1), (48, .iconst 2, 1), (49, .invokevirtual 289, 3), (52, .invokevirtual 420, 3), (55, .iadd, 1), (56, .ireturn, 1)]
theorem tk_X10_stateOf : ∀ q ∈ tb_X10_stateOf, decode cX10_stateOf q.1 = .ok q.2 := by decide +kernel
theorem dc_X10_stateOf (k : Nat) {pc n : Nat} {i : Instr} (h : tb_X10_stateOf[k]? = some (pc, i, n)) : decode cX10_stateOf pc = .ok (i, n) := tk_X10_stateOf (pc, i, n) (List.mem_of_getElem? h)
abbrev mX10_stateOf : e_M := (yX10_stateOf, cX10_stateOf, 2, some (.int), [])
theorem ok_X10_stateOf : e_mok mX10_stateOf 1 := ⟨q2059, q119, by decide +kernel, fun sig h => by cases h; rfl⟩
def f_X10_stateOf (h : e_H) (a0 : Nat) (a1 : Int32) : Option Int32 :=
  Option.bind (e_is h a0 8) (fun _ =>
  Option.bind (f_X10_x h a0 a1 0) (fun x8 =>
  Option.bind (f_X10_y h a0 a1 0) (fun x14 =>
  Option.bind (f_X10_placeOf h a0 x8 x14) (fun x17 =>
  Option.bind (f_X10_x h a0 a1 1) (fun x25 =>
  Option.bind (f_X10_y h a0 a1 1) (fun x31 =>
  Option.bind (f_X10_placeOf h a0 x25 x31) (fun x34 =>
  Option.bind (f_X10_x h a0 a1 2) (fun x43 =>
  Option.bind (f_X10_y h a0 a1 2) (fun x49 =>
  Option.bind (f_X10_placeOf h a0 x43 x49) (fun x52 =>
  some ((36 * ((36 * x17) + x34)) + x52)))))))))))
set_option maxHeartbeats 4000000 in
set_option maxRecDepth 100000 in
theorem ct_X10_stateOf {l : Launch} {D : e_D} {B : Heap} {d : Nat} {h : e_H} {a0 : Nat} {a1 : Int32} {v : Int32} (hd : 4 ≤ d) (e : f_X10_stateOf h a0 a1 = some v) : e_Run l D B d mX10_stateOf [.ref a0, .int a1] h (.ok (some (.int v)), h) := by
  refine e_start [some (.ref a0), some (.int a1)] (by decide) rfl rfl rfl (Nat.le_of_ble_eq_true rfl) (fun K hl0 hD0 hB0 hM hd0 hr => ?_)
  subst hl0 hD0 hB0 hd0
  have ho : (k_M K).1.cls = "PegBandsModel" := by rw [hM]; rfl
  have hT : (k_M K).2.2.2.1 = some (.int) := by rw [hM]
  refine (show Sx K cX10_stateOf 0 [some (.ref a0), some (.int a1)] [] h (f_X10_stateOf h a0 a1) (fun w => w = v) from ?_) _ e rfl
  clear e
  unfold f_X10_stateOf
  refine S_bipush_ 36 (dc_X10_stateOf 0 rfl) rfl ?_
  refine S_bipush_ 36 (dc_X10_stateOf 1 rfl) rfl ?_
  refine S_aload_n (dc_X10_stateOf 2 rfl) rfl ?_
  refine S_aload_n (dc_X10_stateOf 3 rfl) rfl ?_
  refine S_iload_n (dc_X10_stateOf 4 rfl) rfl ?_
  refine S_iconst_ 0 (dc_X10_stateOf 5 rfl) rfl ?_
  refine Sx.ask (fun _ i8 => ?_)
  refine S_roI (d := k_d K - 1) (e_callV (b := a0) (As := [.int a1, .int 0]) (rest := [.ref a0, .int 36, .int 36]) ok_X10_x rfl (Nat.le_of_ble_eq_true rfl) (dc_X10_stateOf 6 rfl) ho q1815 q1817 (show e_cl[8]? = some (RX10, TX10, 51) from rfl) (e_sel.of qs58) (e_is_of i8) rfl (Nat.le_of_ble_eq_true rfl)) (by omega) (fun _ e => ct_X10_x (by omega) e) (fun x8 e8 => ?_)
  refine S_aload_n (dc_X10_stateOf 7 rfl) rfl ?_
  refine S_iload_n (dc_X10_stateOf 8 rfl) rfl ?_
  refine S_iconst_ 0 (dc_X10_stateOf 9 rfl) rfl ?_
  refine S_roI (d := k_d K - 1) (e_callV (b := a0) (As := [.int a1, .int 0]) (rest := [.int x8, .ref a0, .int 36, .int 36]) ok_X10_y rfl (Nat.le_of_ble_eq_true rfl) (dc_X10_stateOf 10 rfl) ho q1819 q1821 (show e_cl[8]? = some (RX10, TX10, 51) from rfl) (e_sel.of qs59) (e_is_of i8) rfl (Nat.le_of_ble_eq_true rfl)) (by omega) (fun _ e => ct_X10_y (by omega) e) (fun x14 e14 => ?_)
  refine S_roI (d := k_d K - 1) (e_callV (b := a0) (As := [.int x8, .int x14]) (rest := [.int 36, .int 36]) ok_X10_placeOf rfl (Nat.le_of_ble_eq_true rfl) (dc_X10_stateOf 11 rfl) ho q2060 q2062 (show e_cl[8]? = some (RX10, TX10, 51) from rfl) (e_sel.of qs91) (e_is_of i8) rfl (Nat.le_of_ble_eq_true rfl)) (by omega) (fun _ e => ct_X10_placeOf (by omega) e) (fun x17 e17 => ?_)
  refine S_imul (dc_X10_stateOf 12 rfl) ?_
  refine S_aload_n (dc_X10_stateOf 13 rfl) rfl ?_
  refine S_aload_n (dc_X10_stateOf 14 rfl) rfl ?_
  refine S_iload_n (dc_X10_stateOf 15 rfl) rfl ?_
  refine S_iconst_ 1 (dc_X10_stateOf 16 rfl) rfl ?_
  refine S_roI (d := k_d K - 1) (e_callV (b := a0) (As := [.int a1, .int 1]) (rest := [.ref a0, .int (36 * x17), .int 36]) ok_X10_x rfl (Nat.le_of_ble_eq_true rfl) (dc_X10_stateOf 17 rfl) ho q1815 q1817 (show e_cl[8]? = some (RX10, TX10, 51) from rfl) (e_sel.of qs58) (e_is_of i8) rfl (Nat.le_of_ble_eq_true rfl)) (by omega) (fun _ e => ct_X10_x (by omega) e) (fun x25 e25 => ?_)
  refine S_aload_n (dc_X10_stateOf 18 rfl) rfl ?_
  refine S_iload_n (dc_X10_stateOf 19 rfl) rfl ?_
  refine S_iconst_ 1 (dc_X10_stateOf 20 rfl) rfl ?_
  refine S_roI (d := k_d K - 1) (e_callV (b := a0) (As := [.int a1, .int 1]) (rest := [.int x25, .ref a0, .int (36 * x17), .int 36]) ok_X10_y rfl (Nat.le_of_ble_eq_true rfl) (dc_X10_stateOf 21 rfl) ho q1819 q1821 (show e_cl[8]? = some (RX10, TX10, 51) from rfl) (e_sel.of qs59) (e_is_of i8) rfl (Nat.le_of_ble_eq_true rfl)) (by omega) (fun _ e => ct_X10_y (by omega) e) (fun x31 e31 => ?_)
  refine S_roI (d := k_d K - 1) (e_callV (b := a0) (As := [.int x25, .int x31]) (rest := [.int (36 * x17), .int 36]) ok_X10_placeOf rfl (Nat.le_of_ble_eq_true rfl) (dc_X10_stateOf 22 rfl) ho q2060 q2062 (show e_cl[8]? = some (RX10, TX10, 51) from rfl) (e_sel.of qs91) (e_is_of i8) rfl (Nat.le_of_ble_eq_true rfl)) (by omega) (fun _ e => ct_X10_placeOf (by omega) e) (fun x34 e34 => ?_)
  refine S_iadd (dc_X10_stateOf 23 rfl) ?_
  refine S_imul (dc_X10_stateOf 24 rfl) ?_
  refine S_aload_n (dc_X10_stateOf 25 rfl) rfl ?_
  refine S_aload_n (dc_X10_stateOf 26 rfl) rfl ?_
  refine S_iload_n (dc_X10_stateOf 27 rfl) rfl ?_
  refine S_iconst_ 2 (dc_X10_stateOf 28 rfl) rfl ?_
  refine S_roI (d := k_d K - 1) (e_callV (b := a0) (As := [.int a1, .int 2]) (rest := [.ref a0, .int (36 * ((36 * x17) + x34))]) ok_X10_x rfl (Nat.le_of_ble_eq_true rfl) (dc_X10_stateOf 29 rfl) ho q1815 q1817 (show e_cl[8]? = some (RX10, TX10, 51) from rfl) (e_sel.of qs58) (e_is_of i8) rfl (Nat.le_of_ble_eq_true rfl)) (by omega) (fun _ e => ct_X10_x (by omega) e) (fun x43 e43 => ?_)
  refine S_aload_n (dc_X10_stateOf 30 rfl) rfl ?_
  refine S_iload_n (dc_X10_stateOf 31 rfl) rfl ?_
  refine S_iconst_ 2 (dc_X10_stateOf 32 rfl) rfl ?_
  refine S_roI (d := k_d K - 1) (e_callV (b := a0) (As := [.int a1, .int 2]) (rest := [.int x43, .ref a0, .int (36 * ((36 * x17) + x34))]) ok_X10_y rfl (Nat.le_of_ble_eq_true rfl) (dc_X10_stateOf 33 rfl) ho q1819 q1821 (show e_cl[8]? = some (RX10, TX10, 51) from rfl) (e_sel.of qs59) (e_is_of i8) rfl (Nat.le_of_ble_eq_true rfl)) (by omega) (fun _ e => ct_X10_y (by omega) e) (fun x49 e49 => ?_)
  refine S_roI (d := k_d K - 1) (e_callV (b := a0) (As := [.int x43, .int x49]) (rest := [.int (36 * ((36 * x17) + x34))]) ok_X10_placeOf rfl (Nat.le_of_ble_eq_true rfl) (dc_X10_stateOf 34 rfl) ho q2060 q2062 (show e_cl[8]? = some (RX10, TX10, 51) from rfl) (e_sel.of qs91) (e_is_of i8) rfl (Nat.le_of_ble_eq_true rfl)) (by omega) (fun _ e => ct_X10_placeOf (by omega) e) (fun x52 e52 => ?_)
  refine S_iadd (dc_X10_stateOf 35 rfl) ?_
  exact S_iret (dc_X10_stateOf 36 rfl) hT rfl (fun q => by cases q; exact hr)
abbrev cX10_setOf : ByteArray := prog_18_method_117_code
def yX10_setOf : MethodName := ⟨"PegBandsModel", "setOf", "(I)I"⟩
def tb_X10_setOf : List (Nat × Instr × Nat) := [(0, .iload_n 0, 1), (1, .sipush 1296, 3), (4, .idiv, 1), (5, .istore_n 1, 1), (6, .iload_n 0, 1), (7, .bipush 36, 2), (9, .idiv, 1), (10, .bipush 36, 2), (12, .irem, 1), (13, .istore_n 2, 1), (14, .iload_n 0, 1), (15, .bipush 36, 2), (17, .irem, 1), (18, .istore_n 3, 1), (19, .iload_n 1, 1), (20, .iload_n 2, 1), (21, .if_icmp .ge 16, 3), (24, .iload_n 1, 1), (25, .iload_n 3, 1), (26, .if_icmp .ge 7, 3), (29, .iload_n 1, 1), (30, .goto 17, 3), (33, .iload_n 3, 1), (34, .goto 13, 3), (37, .iload_n 2, 1), (38, .iload_n 3, 1), (39, .if_icmp .ge 7, 3), (42, .iload_n 2, 1), (43, .goto 4, 3), (46, .iload_n 3, 1), (47, .istore 4, 2), (49, .iload_n 1, 1), (50, .iload_n 2, 1), (51, .if_icmp .le 16, 3), (54, .iload_n 1, 1), (55, .iload_n 3, 1), (56, .if_icmp .le 7, 3), (59, .iload_n 1, 1), (60, .goto 17, 3), (63, .iload_n 3, 1), (64, .goto 13, 3), (67, .iload_n 2, 1), (68, .iload_n 3, 1), (69, .if_icmp .le 7, 3), (72, .iload_n 2, 1), (73, .goto 4, 3), (76, .iload_n 3, 1), (77, .istore 5, 2), (79, .bipush 36, 2), (81, .bipush 36, 2), (83, .iload 4, 2), (85, .imul, 1), (86, .iload_n 1, 1), (87, .iadd, 1), (88, .iload_n 2, 1), (89, .iadd, 1), (90, .iload_n 3, 1), (91, .iadd, 1), (92, .iload 4, 2), (94, .isub, 1), (95, .iload 5, 2), (97, .isub, 1), (98, .imul, 1), (99, .iload 5, 2), (101, .iadd, 1), (102, .ireturn, 1)]
theorem tk_X10_setOf : ∀ q ∈ tb_X10_setOf, decode cX10_setOf q.1 = .ok q.2 := by decide +kernel
theorem dc_X10_setOf (k : Nat) {pc n : Nat} {i : Instr} (h : tb_X10_setOf[k]? = some (pc, i, n)) : decode cX10_setOf pc = .ok (i, n) := tk_X10_setOf (pc, i, n) (List.mem_of_getElem? h)
abbrev mX10_setOf : e_M := (yX10_setOf, cX10_setOf, 6, some (.int), [])
theorem ok_X10_setOf : e_mok mX10_setOf 1 := ⟨q2066, q119, by decide +kernel, fun sig h => by cases h; rfl⟩
def f_X10_setOf (a0 : Int32) : Option Int32 :=
  Option.bind (some (a0 / 1296)) (fun x5 =>
  Option.bind (some ((a0 / 36) - (a0 / 36) / 36 * 36)) (fun x13 =>
  Option.bind (some (a0 - a0 / 36 * 36)) (fun x18 =>
  Option.bind (
      if x13 ≤ x5 then
        if x18 ≤ x13 then
          some x18
        else
          some x13
      else
        if x18 ≤ x5 then
          some x18
        else
          some x5
    : Option (Int32)) (fun s47_1 =>
  Option.bind (
      if x5 ≤ x13 then
        if x13 ≤ x18 then
          some x18
        else
          some x13
      else
        if x5 ≤ x18 then
          some x18
        else
          some x5
    : Option (Int32)) (fun s77_2 =>
  some ((36 * ((((((36 * s47_1) + x5) + x13) + x18) - s47_1) - s77_2)) + s77_2))))))
set_option maxHeartbeats 4000000 in
set_option maxRecDepth 100000 in
theorem ct_X10_setOf {l : Launch} {D : e_D} {B : Heap} {d : Nat} {h : e_H} {a0 : Int32} {v : Int32} (hd : 1 ≤ d) (e : f_X10_setOf a0 = some v) : e_Run l D B d mX10_setOf [.int a0] h (.ok (some (.int v)), h) := by
  refine e_start [some (.int a0), none, none, none, none, none] (by decide) rfl rfl rfl (Nat.le_of_ble_eq_true rfl) (fun K hl0 hD0 hB0 hM hd0 hr => ?_)
  subst hl0 hD0 hB0 hd0
  have ho : (k_M K).1.cls = "PegBandsModel" := by rw [hM]; rfl
  have hT : (k_M K).2.2.2.1 = some (.int) := by rw [hM]
  refine (show Sx K cX10_setOf 0 [some (.int a0), none, none, none, none, none] [] h (f_X10_setOf a0) (fun w => w = v) from ?_) _ e rfl
  clear e
  unfold f_X10_setOf
  refine S_iload_n (dc_X10_setOf 0 rfl) rfl ?_
  refine S_sipush_ 1296 (dc_X10_setOf 1 rfl) rfl ?_
  refine S_idiv (dc_X10_setOf 2 rfl) (by decide) ?_
  refine Sx.nameI (fun x5 n5 => ?_)
  refine S_istore_n (L' := [some (.int a0), some (.int x5), none, none, none, none]) (dc_X10_setOf 3 rfl) rfl ?_
  refine S_iload_n (dc_X10_setOf 4 rfl) rfl ?_
  refine S_bipush_ 36 (dc_X10_setOf 5 rfl) rfl ?_
  refine S_idiv (dc_X10_setOf 6 rfl) (by decide) ?_
  refine S_bipush_ 36 (dc_X10_setOf 7 rfl) rfl ?_
  refine S_irem (dc_X10_setOf 8 rfl) (by decide) ?_
  refine Sx.nameI (fun x13 n13 => ?_)
  refine S_istore_n (L' := [some (.int a0), some (.int x5), some (.int x13), none, none, none]) (dc_X10_setOf 9 rfl) rfl ?_
  refine S_iload_n (dc_X10_setOf 10 rfl) rfl ?_
  refine S_bipush_ 36 (dc_X10_setOf 11 rfl) rfl ?_
  refine S_irem (dc_X10_setOf 12 rfl) (by decide) ?_
  refine Sx.nameI (fun x18 n18 => ?_)
  refine S_istore_n (L' := [some (.int a0), some (.int x5), some (.int x13), some (.int x18), none, none]) (dc_X10_setOf 13 rfl) rfl ?_
  refine S_iload_n (dc_X10_setOf 14 rfl) rfl ?_
  refine S_iload_n (dc_X10_setOf 15 rfl) rfl ?_
  refine Sx.regK1 (pc2 := 47) (L2 := fun (s47_1 : Int32) => [none, some (.int x5), some (.int x13), some (.int x18), none, none]) (st2 := fun (s47_1 : Int32) => [.int s47_1]) (h2 := fun (s47_1 : Int32) => h) ?_ (fun Q1 hK1 => ?_)
  · intro s47_1
    show Sx K cX10_setOf 47 [none, some (.int x5), some (.int x13), some (.int x18), none, none] [.int s47_1] h _ _
    refine S_istore (L' := [none, some (.int x5), some (.int x13), some (.int x18), some (.int s47_1), none]) (dc_X10_setOf 30 rfl) rfl ?_
    refine S_iload_n (dc_X10_setOf 31 rfl) rfl ?_
    refine S_iload_n (dc_X10_setOf 32 rfl) rfl ?_
    refine Sx.regK1 (pc2 := 77) (L2 := fun (s77_2 : Int32) => [none, some (.int x5), some (.int x13), some (.int x18), some (.int s47_1), none]) (st2 := fun (s77_2 : Int32) => [.int s77_2]) (h2 := fun (s77_2 : Int32) => h) ?_ (fun Q2 hK2 => ?_)
    · intro s77_2
      show Sx K cX10_setOf 77 [none, some (.int x5), some (.int x13), some (.int x18), some (.int s47_1), none] [.int s77_2] h _ _
      refine S_istore (L' := [none, some (.int x5), some (.int x13), some (.int x18), some (.int s47_1), some (.int s77_2)]) (dc_X10_setOf 47 rfl) rfl ?_
      refine S_bipush_ 36 (dc_X10_setOf 48 rfl) rfl ?_
      refine S_bipush_ 36 (dc_X10_setOf 49 rfl) rfl ?_
      refine S_iload (dc_X10_setOf 50 rfl) rfl ?_
      refine S_imul (dc_X10_setOf 51 rfl) ?_
      refine S_iload_n (dc_X10_setOf 52 rfl) rfl ?_
      refine S_iadd (dc_X10_setOf 53 rfl) ?_
      refine S_iload_n (dc_X10_setOf 54 rfl) rfl ?_
      refine S_iadd (dc_X10_setOf 55 rfl) ?_
      refine S_iload_n (dc_X10_setOf 56 rfl) rfl ?_
      refine S_iadd (dc_X10_setOf 57 rfl) ?_
      refine S_iload (dc_X10_setOf 58 rfl) rfl ?_
      refine S_isub (dc_X10_setOf 59 rfl) ?_
      refine S_iload (dc_X10_setOf 60 rfl) rfl ?_
      refine S_isub (dc_X10_setOf 61 rfl) ?_
      refine S_imul (dc_X10_setOf 62 rfl) ?_
      refine S_iload (dc_X10_setOf 63 rfl) rfl ?_
      refine S_iadd (dc_X10_setOf 64 rfl) ?_
      exact S_iret (dc_X10_setOf 65 rfl) hT rfl (fun q => by cases q; exact hr)
    · have hK2 : ∀ (s77_2 : Int32), Sx K cX10_setOf 77 [none, some (.int x5), some (.int x13), some (.int x18), some (.int s47_1), none] [.int s77_2] h (some s77_2) Q2 := hK2
      refine S_icmp_le 67 (dc_X10_setOf 33 rfl) rfl (fun c51 => ?_) (fun c51 => ?_)
      · refine S_iload_n (dc_X10_setOf 41 rfl) rfl ?_
        refine S_iload_n (dc_X10_setOf 42 rfl) rfl ?_
        refine S_icmp_le 76 (dc_X10_setOf 43 rfl) rfl (fun c69 => ?_) (fun c69 => ?_)
        · refine S_iload_n (dc_X10_setOf 46 rfl) rfl ?_
          exact hK2 x18
        · refine S_iload_n (dc_X10_setOf 44 rfl) rfl ?_
          refine S_goto 77 (dc_X10_setOf 45 rfl) rfl ?_
          exact hK2 x13
      · refine S_iload_n (dc_X10_setOf 34 rfl) rfl ?_
        refine S_iload_n (dc_X10_setOf 35 rfl) rfl ?_
        refine S_icmp_le 63 (dc_X10_setOf 36 rfl) rfl (fun c56 => ?_) (fun c56 => ?_)
        · refine S_iload_n (dc_X10_setOf 39 rfl) rfl ?_
          refine S_goto 77 (dc_X10_setOf 40 rfl) rfl ?_
          exact hK2 x18
        · refine S_iload_n (dc_X10_setOf 37 rfl) rfl ?_
          refine S_goto 77 (dc_X10_setOf 38 rfl) rfl ?_
          exact hK2 x5
  · have hK1 : ∀ (s47_1 : Int32), Sx K cX10_setOf 47 [none, some (.int x5), some (.int x13), some (.int x18), none, none] [.int s47_1] h (some s47_1) Q1 := hK1
    refine S_icmp_ge 37 (dc_X10_setOf 16 rfl) rfl (fun c21 => ?_) (fun c21 => ?_)
    · refine S_iload_n (dc_X10_setOf 24 rfl) rfl ?_
      refine S_iload_n (dc_X10_setOf 25 rfl) rfl ?_
      refine S_icmp_ge 46 (dc_X10_setOf 26 rfl) rfl (fun c39 => ?_) (fun c39 => ?_)
      · refine S_iload_n (dc_X10_setOf 29 rfl) rfl ?_
        refine Sx.cut [false, true, true, true, true, true] ?_
        exact hK1 x18
      · refine S_iload_n (dc_X10_setOf 27 rfl) rfl ?_
        refine S_goto 47 (dc_X10_setOf 28 rfl) rfl ?_
        refine Sx.cut [false, true, true, true, true, true] ?_
        exact hK1 x13
    · refine S_iload_n (dc_X10_setOf 17 rfl) rfl ?_
      refine S_iload_n (dc_X10_setOf 18 rfl) rfl ?_
      refine S_icmp_ge 33 (dc_X10_setOf 19 rfl) rfl (fun c26 => ?_) (fun c26 => ?_)
      · refine S_iload_n (dc_X10_setOf 22 rfl) rfl ?_
        refine S_goto 47 (dc_X10_setOf 23 rfl) rfl ?_
        refine Sx.cut [false, true, true, true, true, true] ?_
        exact hK1 x18
      · refine S_iload_n (dc_X10_setOf 20 rfl) rfl ?_
        refine S_goto 47 (dc_X10_setOf 21 rfl) rfl ?_
        refine Sx.cut [false, true, true, true, true, true] ?_
        exact hK1 x5
abbrev cX10_bends : ByteArray := prog_18_method_118_code
def yX10_bends : MethodName := ⟨"PegBandsModel", "bends", "(I)Z"⟩
def tb_X10_bends : List (Nat × Instr × Nat) := [(0, .aload_n 0, 1), (1, .getfield 13, 3), (4, .iconst 0, 1), (5, .iaload, 1), (6, .istore_n 2, 1), (7, .iload_n 1, 1), (8, .sipush 1296, 3), (11, .idiv, 1), (12, .istore_n 3, 1), (13, .iload_n 1, 1), (14, .bipush 36, 2), (16, .idiv, 1), (17, .bipush 36, 2), (19, .irem, 1), (20, .istore 4, 2), (22, .iload_n 1, 1), (23, .bipush 36, 2), (25, .irem, 1), (26, .istore 5, 2), (28, .iload_n 3, 1), (29, .iload_n 2, 1), (30, .irem, 1), (31, .iload_n 3, 1), (32, .iload_n 2, 1), (33, .idiv, 1), (34, .iload 4, 2), (36, .iload_n 2, 1), (37, .irem, 1), (38, .iload 4, 2), (40, .iload_n 2, 1), (41, .idiv, 1), (42, .iload 5, 2), (44, .iload_n 2, 1), (45, .irem, 1), (46, .iload 5, 2), (48, .iload_n 2, 1), (49, .idiv, 1), (50, .invokestatic 192, 3), (53, .ifCond .eq 7, 3), (56, .iconst 1, 1), (57, .goto 4, 3), (60, .iconst 0, 1), (61, .ireturn, 1)]
theorem tk_X10_bends : ∀ q ∈ tb_X10_bends, decode cX10_bends q.1 = .ok q.2 := by decide +kernel
theorem dc_X10_bends (k : Nat) {pc n : Nat} {i : Instr} (h : tb_X10_bends[k]? = some (pc, i, n)) : decode cX10_bends pc = .ok (i, n) := tk_X10_bends (pc, i, n) (List.mem_of_getElem? h)
abbrev mX10_bends : e_M := (yX10_bends, cX10_bends, 6, some (.boolean), [])
theorem ok_X10_bends : e_mok mX10_bends 1 := ⟨q2070, q119, by decide +kernel, fun sig h => by cases h; rfl⟩
def f_X10_bends (h : e_H) (a0 : Nat) (a1 : Int32) : Option Int32 :=
  Option.bind (e_fA h a0 8 15) (fun x1 =>
  Option.bind (e_aI h x1 0 0) (fun x5 =>
  Option.bind (some (a1 / 1296)) (fun x12 =>
  Option.bind (some ((a1 / 36) - (a1 / 36) / 36 * 36)) (fun x20 =>
  Option.bind (some (a1 - a1 / 36 * 36)) (fun x26 =>
  if x5 = 0 then none else
  if x5 = 0 then none else
  if x5 = 0 then none else
  if x5 = 0 then none else
  if x5 = 0 then none else
  if x5 = 0 then none else
  Option.bind (f_X10_turn (x12 - x12 / x5 * x5) (x12 / x5) (x20 - x20 / x5 * x5) (x20 / x5) (x26 - x26 / x5 * x5) (x26 / x5)) (fun x50 =>
  if x50 = 0 then
    some 0
  else
    some 1))))))
set_option maxHeartbeats 4000000 in
set_option maxRecDepth 100000 in
theorem ct_X10_bends {l : Launch} {D : e_D} {B : Heap} {d : Nat} {h : e_H} {a0 : Nat} {a1 : Int32} {v : Int32} (hd : 3 ≤ d) (e : f_X10_bends h a0 a1 = some v) : e_Run l D B d mX10_bends [.ref a0, .int a1] h (.ok (some (.int v)), h) := by
  refine e_start [some (.ref a0), some (.int a1), none, none, none, none] (by decide) rfl rfl rfl (Nat.le_of_ble_eq_true rfl) (fun K hl0 hD0 hB0 hM hd0 hr => ?_)
  subst hl0 hD0 hB0 hd0
  have ho : (k_M K).1.cls = "PegBandsModel" := by rw [hM]; rfl
  have hT : (k_M K).2.2.2.1 = some (.boolean) := by rw [hM]
  refine (show Sx K cX10_bends 0 [some (.ref a0), some (.int a1), none, none, none, none] [] h (f_X10_bends h a0 a1) (fun w => w = v) from ?_) _ e rfl
  clear e
  unfold f_X10_bends
  refine S_aload_n (dc_X10_bends 0 rfl) rfl ?_
  refine S_getA (dc_X10_bends 1 rfl) ho fl_X10_13_8_15 (fun _ _ => rfl) (fun x1 e1 => ?_)
  refine S_iconst_ 0 (dc_X10_bends 2 rfl) rfl ?_
  refine S_iald (dc_X10_bends 3 rfl) (fun x5 e5 => ?_)
  refine S_istore_n (L' := [some (.ref a0), some (.int a1), some (.int x5), none, none, none]) (dc_X10_bends 4 rfl) rfl ?_
  refine S_iload_n (dc_X10_bends 5 rfl) rfl ?_
  refine S_sipush_ 1296 (dc_X10_bends 6 rfl) rfl ?_
  refine S_idiv (dc_X10_bends 7 rfl) (by decide) ?_
  refine Sx.nameI (fun x12 n12 => ?_)
  refine S_istore_n (L' := [some (.ref a0), some (.int a1), some (.int x5), some (.int x12), none, none]) (dc_X10_bends 8 rfl) rfl ?_
  refine S_iload_n (dc_X10_bends 9 rfl) rfl ?_
  refine S_bipush_ 36 (dc_X10_bends 10 rfl) rfl ?_
  refine S_idiv (dc_X10_bends 11 rfl) (by decide) ?_
  refine S_bipush_ 36 (dc_X10_bends 12 rfl) rfl ?_
  refine S_irem (dc_X10_bends 13 rfl) (by decide) ?_
  refine Sx.nameI (fun x20 n20 => ?_)
  refine S_istore (L' := [some (.ref a0), some (.int a1), some (.int x5), some (.int x12), some (.int x20), none]) (dc_X10_bends 14 rfl) rfl ?_
  refine S_iload_n (dc_X10_bends 15 rfl) rfl ?_
  refine S_bipush_ 36 (dc_X10_bends 16 rfl) rfl ?_
  refine S_irem (dc_X10_bends 17 rfl) (by decide) ?_
  refine Sx.nameI (fun x26 n26 => ?_)
  refine S_istore (L' := [some (.ref a0), some (.int a1), some (.int x5), some (.int x12), some (.int x20), some (.int x26)]) (dc_X10_bends 18 rfl) rfl ?_
  refine S_iload_n (dc_X10_bends 19 rfl) rfl ?_
  refine S_iload_n (dc_X10_bends 20 rfl) rfl ?_
  refine Sx.ncond (fun c30 => ?_)
  refine S_irem (dc_X10_bends 21 rfl) c30 ?_
  refine S_iload_n (dc_X10_bends 22 rfl) rfl ?_
  refine S_iload_n (dc_X10_bends 23 rfl) rfl ?_
  refine Sx.ncond (fun c33 => ?_)
  refine S_idiv (dc_X10_bends 24 rfl) c33 ?_
  refine S_iload (dc_X10_bends 25 rfl) rfl ?_
  refine S_iload_n (dc_X10_bends 26 rfl) rfl ?_
  refine Sx.ncond (fun c37 => ?_)
  refine S_irem (dc_X10_bends 27 rfl) c37 ?_
  refine S_iload (dc_X10_bends 28 rfl) rfl ?_
  refine S_iload_n (dc_X10_bends 29 rfl) rfl ?_
  refine Sx.ncond (fun c41 => ?_)
  refine S_idiv (dc_X10_bends 30 rfl) c41 ?_
  refine S_iload (dc_X10_bends 31 rfl) rfl ?_
  refine S_iload_n (dc_X10_bends 32 rfl) rfl ?_
  refine Sx.ncond (fun c45 => ?_)
  refine S_irem (dc_X10_bends 33 rfl) c45 ?_
  refine S_iload (dc_X10_bends 34 rfl) rfl ?_
  refine S_iload_n (dc_X10_bends 35 rfl) rfl ?_
  refine Sx.ncond (fun c49 => ?_)
  refine S_idiv (dc_X10_bends 36 rfl) c49 ?_
  refine S_roI (d := k_d K - 1) (e_callS (As := [.int (x12 - x12 / x5 * x5), .int (x12 / x5), .int (x20 - x20 / x5 * x5), .int (x20 / x5), .int (x26 - x26 / x5 * x5), .int (x26 / x5)]) (rest := []) ok_X10_turn rfl (Nat.le_of_ble_eq_true rfl) (dc_X10_bends 37 rfl) ho q1750 q1751 rfl (Nat.le_of_ble_eq_true rfl)) (by omega) (fun _ e => ct_X10_turn (by omega) e) (fun x50 e50 => ?_)
  refine S_if_eq 60 (dc_X10_bends 38 rfl) rfl (fun c53 => ?_) (fun c53 => ?_)
  · refine S_iconst_ 0 (dc_X10_bends 41 rfl) rfl ?_
    exact S_iret (dc_X10_bends 42 rfl) hT rfl (fun q => by cases q; exact hr)
  · refine S_iconst_ 1 (dc_X10_bends 39 rfl) rfl ?_
    refine S_goto 61 (dc_X10_bends 40 rfl) rfl ?_
    exact S_iret (dc_X10_bends 42 rfl) hT rfl (fun q => by cases q; exact hr)
abbrev cX10_moved : ByteArray := prog_18_method_119_code
def yX10_moved : MethodName := ⟨"PegBandsModel", "moved", "(II)I"⟩
def tb_X10_moved : List (Nat × Instr × Nat) := [(0, .aload_n 0, 1), (1, .iconst 0, 1), (2, .putfield 94, 3), (5, .aload_n 0, 1), (6, .iload_n 1, 1), (7, .invokevirtual 304, 3), (10, .ifCond .eq 47, 3), (13, .aload_n 0, 1), (14, .iload_n 2, 1), (15, .invokevirtual 304, 3), (18, .ifCond .eq 39, 3), (21, .aload_n 0, 1), (22, .iload_n 1, 1), (23, .invokevirtual 279, 3), (26, .iconst 3, 1), (27, .if_icmp .ne 30, 3), (30, .aload_n 0, 1), (31, .iload_n 2, 1), (32, .invokevirtual 279, 3), (35, .iconst 3, 1), (36, .if_icmp .ne 21, 3), (39, .aload_n 0, 1), (40, .getfield 13, 3), (43, .iconst 0, 1), (44, .iaload, 1), (45, .aload_n 0, 1), (46, .getfield 13, 3), (49, .iconst 1, 1), (50, .iaload, 1), (51, .imul, 1), (52, .bipush 36, 2), (54, .if_icmp .le 5, 3), (57, .iconst (-1), 1), (58, .ireturn, 1), (59, .aload_n 0, 1), (60, .iload_n 2, 1), (61, .invokevirtual 423, 3), (64, .invokestatic 426, 3), (67, .istore_n 3, 1), (68, .iconst 0, 1), (69, .istore 4, 2), (71, .iload 4, 2), (73, .ldc 78, 2), (75, .if_icmp .ge 17, 3), (78, .aload_n 0, 1), (79, .getfield 79, 3), (82, .iload 4, 2), (84, .iconst (-1), 1), (85, .iastore, 1), (86, .iinc 4 1, 3), (89, .goto (-18), 3), (92, .aload_n 0, 1), (93, .iload_n 1, 1), (94, .invokevirtual 423, 3), (97, .istore 4, 2), (99, .aload_n 0, 1), (100, .getfield 79, 3), (103, .iload 4, 2), (105, .iconst 0, 1), (106, .iastore, 1), (107, .aload_n 0, 1), (108, .getfield 82, 3), (111, .iconst 0, 1), (112, .iload 4, 2), (114, .iastore, 1), (115, .iconst 1, 1), (116, .istore 5, 2), (118, .iconst 0, 1), (119, .istore 6, 2), (121, .iload 6, 2), (123, .iload 5, 2), (125, .if_icmp .ge 237, 3), (128, .aload_n 0, 1), (129, .getfield 82, 3), (132, .iload 6, 2), (134, .iaload, 1), (135, .istore 7, 2), (137, .iload 7, 2), (139, .invokestatic 426, 3), (142, .iload_n 3, 1), (143, .if_icmp .ne 11, 3), (146, .aload_n 0, 1), (147, .getfield 79, 3), (150, .iload 7, 2), (152, .iaload, 1), (153, .ireturn, 1), (154, .iconst 1, 1), (155, .istore 8, 2), (157, .iconst 0, 1), (158, .istore 9, 2), (160, .iload 9, 2), (162, .iconst 3, 1), (163, .if_icmp .ge 193, 3), (166, .iload 7, 2), (168, .iload 8, 2), (170, .idiv, 1), (171, .bipush 36, 2), (173, .irem, 1), (174, .istore 10, 2), (176, .iconst 0, 1), (177, .istore 11, 2), (179, .iload 11, 2), (181, .iconst 4, 1), (182, .if_icmp .ge 161, 3), (185, .iload 10, 2), (187, .aload_n 0, 1), (188, .getfield 13, 3), (191, .iconst 0, 1), (192, .iaload, 1), (193, .irem, 1), (194, .iload 11, 2), (196, .iconst 1, 1), (197, .if_icmp .ne 7, 3), (200, .iconst 1, 1), (201, .goto 14, 3), (204, .iload 11, 2), (206, .iconst 3, 1), (207, .if_icmp .ne 7, 3), (210, .iconst (-1), 1), (211, .goto 4, 3), (214, .iconst 0, 1), (215, .iadd, 1), (216, .istore 12, 2), (218, .iload 10, 2), (220, .aload_n 0, 1), (221, .getfield 13, 3), (224, .iconst 0, 1), (225, .iaload, 1), (226, .idiv, 1), (227, .iload 11, 2), (229, .iconst 2, 1), (230, .if_icmp .ne 7, 3), (233, .iconst 1, 1), (234, .goto 13, 3), (237, .iload 11, 2), (239, .ifCond .ne 7, 3), (242, .iconst (-1), 1), (243, .goto 4, 3), (246, .iconst 0, 1), (247, .iadd, 1), (248, .istore 13, 2), (250, .aload_n 0, 1), (251, .getfield 13, 3), (254, .iload 12, 2), (256, .iload 13, 2), (258, .invokestatic 226, 3), (261, .ifCond .ne 6, 3), (264, .goto 73, 3), (267, .iload 7, 2), (269, .iload 8, 2), (271, .aload_n 0, 1), (272, .iload 12, 2), (274, .iload 13, 2), (276, .invokevirtual 420, 3), (279, .iload 10, 2), (281, .isub, 1), (282, .imul, 1), (283, .iadd, 1), (284, .istore 14, 2), (286, .aload_n 0, 1), (287, .getfield 79, 3), (290, .iload 14, 2), (292, .iaload, 1), (293, .iconst (-1), 1), (294, .if_icmp .ne 43, 3), (297, .aload_n 0, 1), (298, .iload 14, 2), (300, .invokevirtual 429, 3), (303, .ifCond .ne 6, 3), (306, .goto 31, 3), (309, .aload_n 0, 1), (310, .getfield 79, 3), (313, .iload 14, 2), (315, .aload_n 0, 1), (316, .getfield 79, 3), (319, .iload 7, 2), (321, .iaload, 1), (322, .iconst 1, 1), (323, .iadd, 1), (324, .iastore, 1), (325, .aload_n 0, 1), (326, .getfield 82, 3), (329, .iload 5, 2), (331, .iload 14, 2), (333, .iastore, 1), (334, .iinc 5 1, 3), (337, .iinc 11 1, 3), (340, .goto (-161), 3), (343, .iload 8, 2), (345, .bipush 36, 2), (347, .imul, 1), (348, .istore 8, 2), (350, .iinc 9 1, 3), (353, .goto (-193), 3), (356, .iinc 6 1, 3), (359, .goto (-238), 3), (362, .iconst (-1), 1), (363, .ireturn, 1)]
theorem tk_X10_moved : ∀ q ∈ tb_X10_moved, decode cX10_moved q.1 = .ok q.2 := by decide +kernel
theorem dc_X10_moved (k : Nat) {pc n : Nat} {i : Instr} (h : tb_X10_moved[k]? = some (pc, i, n)) : decode cX10_moved pc = .ok (i, n) := tk_X10_moved (pc, i, n) (List.mem_of_getElem? h)
abbrev mX10_moved : e_M := (yX10_moved, cX10_moved, 15, some (.int), [])
theorem ok_X10_moved : e_mok mX10_moved 2 := ⟨q2055, q119, by decide +kernel, fun sig h => by cases h; rfl⟩
def lp_X10_moved_71 (F : Nat) (a0 : Nat) : Nat → Int32 → e_H → Option (e_H)
  | 0, _, _ => none
  | n + 1, x4_71, h_71 =>
    if 46656 ≤ x4_71 then
      some h_71
    else
      Option.bind (e_fA h_71 a0 8 41) (fun x79 =>
      Option.bind (e_wI h_71 x79 0 x4_71 (-1)) (fun h85 =>
      Option.bind (some (x4_71 + 1)) (fun x86 =>
      lp_X10_moved_71 F a0 n x86 h85)))
def lp_X10_moved_179 (F : Nat) (a0 : Nat) (x134 : Int32) (x8_160 : Int32) (x174 : Int32) : Nat → Int32 → Int32 → e_H → Option ((Int32 × e_H))
  | 0, _, _, _ => none
  | n + 1, x5_179, x11_179, h_179 =>
    if 4 ≤ x11_179 then
      some (x5_179, h_179)
    else
      Option.bind (e_fA h_179 a0 8 15) (fun x188 =>
      Option.bind (e_aI h_179 x188 0 0) (fun x192 =>
      if x192 = 0 then none else
      Option.bind (
          if x11_179 = 1 then
            some 1
          else
            if x11_179 = 3 then
              some (-1)
            else
              some 0
        : Option (Int32)) (fun s215_5 =>
      Option.bind (some ((x174 - x174 / x192 * x192) + s215_5)) (fun x216 =>
      Option.bind (e_fA h_179 a0 8 15) (fun x221 =>
      Option.bind (e_aI h_179 x221 0 0) (fun x225 =>
      if x225 = 0 then none else
      Option.bind (
          if x11_179 = 2 then
            some 1
          else
            if x11_179 = 0 then
              some (-1)
            else
              some 0
        : Option (Int32)) (fun s247_6 =>
      Option.bind (some ((x174 / x225) + s247_6)) (fun x248 =>
      Option.bind (e_fA h_179 a0 8 15) (fun x251 =>
      Option.bind (f_X10_isPeg h_179 x251 x216 x248) (fun x258 =>
      Option.bind (
          if x258 = 0 then
            some (x5_179, h_179)
          else
            Option.bind (f_X10_placeOf h_179 a0 x216 x248) (fun x276 =>
            Option.bind (some (x134 + (x8_160 * (x276 - x174)))) (fun x284 =>
            Option.bind (e_fA h_179 a0 8 41) (fun x287 =>
            Option.bind (e_aI h_179 x287 0 x284) (fun x292 =>
            if x292 = (-1) then
              Option.bind (f_X10_bends h_179 a0 x284) (fun x300 =>
              if x300 = 0 then
                some (x5_179, h_179)
              else
                Option.bind (e_fA h_179 a0 8 41) (fun x310 =>
                Option.bind (e_fA h_179 a0 8 41) (fun x316 =>
                Option.bind (e_aI h_179 x316 0 x134) (fun x321 =>
                Option.bind (e_wI h_179 x310 0 x284 (x321 + 1)) (fun h324 =>
                Option.bind (e_fA h324 a0 8 42) (fun x326 =>
                Option.bind (e_wI h324 x326 0 x5_179 x284) (fun h333 =>
                Option.bind (some (x5_179 + 1)) (fun x334 =>
                some (x334, h333)))))))))
            else
              some (x5_179, h_179)))))
        : Option ((Int32 × e_H))) (e_u2 (fun x5_337_7 h337_7 =>
      Option.bind (some (x11_179 + 1)) (fun x337 =>
      lp_X10_moved_179 F a0 x134 x8_160 x174 n x5_337_7 x337 h337_7)))))))))))))
def lp_X10_moved_160 (F : Nat) (a0 : Nat) (x134 : Int32) : Nat → Int32 → Int32 → Int32 → e_H → Option ((Int32 × e_H))
  | 0, _, _, _, _ => none
  | n + 1, x5_160, x8_160, x9_160, h_160 =>
    if 3 ≤ x9_160 then
      some (x5_160, h_160)
    else
      if x8_160 = 0 then none else
      Option.bind (some ((x134 / x8_160) - (x134 / x8_160) / 36 * 36)) (fun x174 =>
      Option.bind (
          lp_X10_moved_179 F a0 x134 x8_160 x174 F x5_160 0 h_160
        : Option ((Int32 × e_H))) (e_u2 (fun x5_343_4 h343_4 =>
      Option.bind (some (x8_160 * 36)) (fun x348 =>
      Option.bind (some (x9_160 + 1)) (fun x350 =>
      lp_X10_moved_160 F a0 x134 n x5_343_4 x348 x350 h343_4)))))
def lp_X10_moved_121 (F : Nat) (a0 : Nat) (x64 : Int32) : Nat → Int32 → Int32 → e_H → Option (Except (Int32 × e_H) e_H)
  | 0, _, _, _ => none
  | n + 1, x5_121, x6_121, h_121 =>
    if x5_121 ≤ x6_121 then
      some (.ok h_121)
    else
      Option.bind (e_fA h_121 a0 8 42) (fun x129 =>
      Option.bind (e_aI h_121 x129 0 x6_121) (fun x134 =>
      Option.bind (f_X10_setOf x134) (fun x139 =>
      if x139 = x64 then
        Option.bind (e_fA h_121 a0 8 41) (fun x147 =>
        Option.bind (e_aI h_121 x147 0 x134) (fun x152 =>
        some (.error (x152, h_121))))
      else
        Option.bind (
            lp_X10_moved_160 F a0 x134 F x5_121 1 0 h_121
          : Option ((Int32 × e_H))) (e_u2 (fun x5_356_3 h356_3 =>
        Option.bind (some (x6_121 + 1)) (fun x356 =>
        lp_X10_moved_121 F a0 x64 n x5_356_3 x356 h356_3))))))
def f_X10_moved (F : Nat) (h : e_H) (a0 : Nat) (a1 : Int32) (a2 : Int32) : Option (Int32 × e_H) :=
  Option.bind (e_gI h a0 8 0 0) (fun h2 =>
  Option.bind (e_is h2 a0 8) (fun _ =>
  Option.bind (f_X10_isBand h2 a0 a1) (fun x7 =>
  if x7 = 0 then
    some ((-1), h2)
  else
    Option.bind (f_X10_isBand h2 a0 a2) (fun x15 =>
    if x15 = 0 then
      some ((-1), h2)
    else
      Option.bind (f_X10_corners h2 a0 a1) (fun x23 =>
      if x23 = 3 then
        Option.bind (f_X10_corners h2 a0 a2) (fun x32 =>
        if x32 = 3 then
          Option.bind (e_fA h2 a0 8 15) (fun x40 =>
          Option.bind (e_aI h2 x40 0 0) (fun x44 =>
          Option.bind (e_fA h2 a0 8 15) (fun x46 =>
          Option.bind (e_aI h2 x46 0 1) (fun x50 =>
          if (x44 * x50) ≤ 36 then
            Option.bind (f_X10_stateOf h2 a0 a2) (fun x61 =>
            Option.bind (f_X10_setOf x61) (fun x64 =>
            Option.bind (
                lp_X10_moved_71 F a0 F 0 h2
              : Option (e_H)) (fun h92_1 =>
            Option.bind (e_is h92_1 a0 8) (fun _ =>
            Option.bind (f_X10_stateOf h92_1 a0 a1) (fun x94 =>
            Option.bind (e_fA h92_1 a0 8 41) (fun x100 =>
            Option.bind (e_wI h92_1 x100 0 x94 0) (fun h106 =>
            Option.bind (e_fA h106 a0 8 42) (fun x108 =>
            Option.bind (e_wI h106 x108 0 0 x94) (fun h114 =>
            e_bE (
                lp_X10_moved_121 F a0 x64 F 1 0 h114
              : Option (Except (Int32 × e_H) e_H)) (fun h362_2 =>
            some ((-1), h362_2)))))))))))
          else
            some ((-1), h2)))))
        else
          some ((-1), h2))
      else
        some ((-1), h2))))))
set_option maxHeartbeats 4000000 in
set_option maxRecDepth 100000 in
theorem ct_X10_moved {l : Launch} {D : e_D} {B : Heap} {F : Nat} {d : Nat} {h : e_H} {a0 : Nat} {a1 : Int32} {a2 : Int32} {v : Int32} {h1 : e_H} (hd : 5 ≤ d) (e : f_X10_moved F h a0 a1 a2 = some (v, h1)) : e_Run l D B d mX10_moved [.ref a0, .int a1, .int a2] h (.ok (some (.int v)), h1) := by
  refine e_start [some (.ref a0), some (.int a1), some (.int a2), none, none, none, none, none, none, none, none, none, none, none, none] (by decide) rfl rfl rfl (Nat.le_of_ble_eq_true rfl) (fun K hl0 hD0 hB0 hM hd0 hr => ?_)
  subst hl0 hD0 hB0 hd0
  have ho : (k_M K).1.cls = "PegBandsModel" := by rw [hM]; rfl
  have hT : (k_M K).2.2.2.1 = some (.int) := by rw [hM]
  refine (show Sx K cX10_moved 0 [some (.ref a0), some (.int a1), some (.int a2), none, none, none, none, none, none, none, none, none, none, none, none] [] h (f_X10_moved F h a0 a1 a2) (fun w => w = (v, h1)) from ?_) _ e rfl
  clear e
  unfold f_X10_moved
  refine S_aload_n (dc_X10_moved 0 rfl) rfl ?_
  refine S_iconst_ 0 (dc_X10_moved 1 rfl) rfl ?_
  refine S_putI (dc_X10_moved 2 rfl) ho fl_X10_94_8_0 (fun _ _ => rfl) (Or.inl rfl) rfl rfl (fun h2 e2 => ?_)
  refine S_aload_n (dc_X10_moved 3 rfl) rfl ?_
  refine S_iload_n (dc_X10_moved 4 rfl) rfl ?_
  refine Sx.ask (fun _ i7 => ?_)
  refine S_roI (d := k_d K - 1) (e_callV (b := a0) (As := [.int a1]) (rest := []) ok_X10_isBand rfl (Nat.le_of_ble_eq_true rfl) (dc_X10_moved 5 rfl) ho q1791 q1793 (show e_cl[8]? = some (RX10, TX10, 51) from rfl) (e_sel.of qs52) (e_is_of i7) rfl (Nat.le_of_ble_eq_true rfl)) (by omega) (fun _ e => ct_X10_isBand (by omega) e) (fun x7 e7 => ?_)
  refine S_if_eq 57 (dc_X10_moved 6 rfl) rfl (fun c10 => ?_) (fun c10 => ?_)
  · refine S_iconst_ (-1) (dc_X10_moved 32 rfl) rfl ?_
    exact S_iret (dc_X10_moved 33 rfl) hT rfl (e_rqI hr)
  · refine S_aload_n (dc_X10_moved 7 rfl) rfl ?_
    refine S_iload_n (dc_X10_moved 8 rfl) rfl ?_
    refine S_roI (d := k_d K - 1) (e_callV (b := a0) (As := [.int a2]) (rest := []) ok_X10_isBand rfl (Nat.le_of_ble_eq_true rfl) (dc_X10_moved 9 rfl) ho q1791 q1793 (show e_cl[8]? = some (RX10, TX10, 51) from rfl) (e_sel.of qs52) (e_is_of i7) rfl (Nat.le_of_ble_eq_true rfl)) (by omega) (fun _ e => ct_X10_isBand (by omega) e) (fun x15 e15 => ?_)
    refine S_if_eq 57 (dc_X10_moved 10 rfl) rfl (fun c18 => ?_) (fun c18 => ?_)
    · refine S_iconst_ (-1) (dc_X10_moved 32 rfl) rfl ?_
      exact S_iret (dc_X10_moved 33 rfl) hT rfl (e_rqI hr)
    · refine S_aload_n (dc_X10_moved 11 rfl) rfl ?_
      refine S_iload_n (dc_X10_moved 12 rfl) rfl ?_
      refine S_roI (d := k_d K - 1) (e_callV (b := a0) (As := [.int a1]) (rest := []) ok_X10_corners rfl (Nat.le_of_ble_eq_true rfl) (dc_X10_moved 13 rfl) ho q1803 q1805 (show e_cl[8]? = some (RX10, TX10, 51) from rfl) (e_sel.of qs55) (e_is_of i7) rfl (Nat.le_of_ble_eq_true rfl)) (by omega) (fun _ e => ct_X10_corners (by omega) e) (fun x23 e23 => ?_)
      refine S_iconst_ 3 (dc_X10_moved 14 rfl) rfl ?_
      refine S_icmp_ne 57 (dc_X10_moved 15 rfl) rfl (fun c27 => ?_) (fun c27 => ?_)
      · refine S_iconst_ (-1) (dc_X10_moved 32 rfl) rfl ?_
        exact S_iret (dc_X10_moved 33 rfl) hT rfl (e_rqI hr)
      · refine S_aload_n (dc_X10_moved 16 rfl) rfl ?_
        refine S_iload_n (dc_X10_moved 17 rfl) rfl ?_
        refine S_roI (d := k_d K - 1) (e_callV (b := a0) (As := [.int a2]) (rest := []) ok_X10_corners rfl (Nat.le_of_ble_eq_true rfl) (dc_X10_moved 18 rfl) ho q1803 q1805 (show e_cl[8]? = some (RX10, TX10, 51) from rfl) (e_sel.of qs55) (e_is_of i7) rfl (Nat.le_of_ble_eq_true rfl)) (by omega) (fun _ e => ct_X10_corners (by omega) e) (fun x32 e32 => ?_)
        refine S_iconst_ 3 (dc_X10_moved 19 rfl) rfl ?_
        refine S_icmp_ne 57 (dc_X10_moved 20 rfl) rfl (fun c36 => ?_) (fun c36 => ?_)
        · refine S_iconst_ (-1) (dc_X10_moved 32 rfl) rfl ?_
          exact S_iret (dc_X10_moved 33 rfl) hT rfl (e_rqI hr)
        · refine S_aload_n (dc_X10_moved 21 rfl) rfl ?_
          refine S_getA (dc_X10_moved 22 rfl) ho fl_X10_13_8_15 (fun _ _ => rfl) (fun x40 e40 => ?_)
          refine S_iconst_ 0 (dc_X10_moved 23 rfl) rfl ?_
          refine S_iald (dc_X10_moved 24 rfl) (fun x44 e44 => ?_)
          refine S_aload_n (dc_X10_moved 25 rfl) rfl ?_
          refine S_getA (dc_X10_moved 26 rfl) ho fl_X10_13_8_15 (fun _ _ => rfl) (fun x46 e46 => ?_)
          refine S_iconst_ 1 (dc_X10_moved 27 rfl) rfl ?_
          refine S_iald (dc_X10_moved 28 rfl) (fun x50 e50 => ?_)
          refine S_imul (dc_X10_moved 29 rfl) ?_
          refine S_bipush_ 36 (dc_X10_moved 30 rfl) rfl ?_
          refine S_icmp_le 59 (dc_X10_moved 31 rfl) rfl (fun c54 => ?_) (fun c54 => ?_)
          · refine S_aload_n (dc_X10_moved 34 rfl) rfl ?_
            refine S_iload_n (dc_X10_moved 35 rfl) rfl ?_
            refine S_roI (d := k_d K - 1) (e_callV (b := a0) (As := [.int a2]) (rest := []) ok_X10_stateOf rfl (Nat.le_of_ble_eq_true rfl) (dc_X10_moved 36 rfl) ho q2056 q2058 (show e_cl[8]? = some (RX10, TX10, 51) from rfl) (e_sel.of qs90) (e_is_of i7) rfl (Nat.le_of_ble_eq_true rfl)) (by omega) (fun _ e => ct_X10_stateOf (by omega) e) (fun x61 e61 => ?_)
            refine S_roI (d := k_d K - 1) (e_callS (As := [.int x61]) (rest := []) ok_X10_setOf rfl (Nat.le_of_ble_eq_true rfl) (dc_X10_moved 37 rfl) ho q2064 q2065 rfl (Nat.le_of_ble_eq_true rfl)) (by omega) (fun _ e => ct_X10_setOf (by omega) e) (fun x64 e64 => ?_)
            refine S_istore_n (L' := [some (.ref a0), some (.int a1), some (.int a2), some (.int x64), none, none, none, none, none, none, none, none, none, none, none]) (dc_X10_moved 38 rfl) rfl ?_
            refine S_iconst_ 0 (dc_X10_moved 39 rfl) rfl ?_
            refine S_istore (L' := [some (.ref a0), some (.int a1), some (.int a2), some (.int x64), some (.int 0), none, none, none, none, none, none, none, none, none, none]) (dc_X10_moved 40 rfl) rfl ?_
            refine Sx.regK1 (pc2 := 92) (L2 := fun (h92_1 : e_H) => [some (.ref a0), some (.int a1), none, some (.int x64), none, none, none, none, none, none, none, none, none, none, none]) (st2 := fun (h92_1 : e_H) => []) (h2 := fun (h92_1 : e_H) => h92_1) ?_ (fun Q1 hK1 => ?_)
            · intro h92_1
              show Sx K cX10_moved 92 [some (.ref a0), some (.int a1), none, some (.int x64), none, none, none, none, none, none, none, none, none, none, none] [] h92_1 _ _
              refine S_aload_n (dc_X10_moved 51 rfl) rfl ?_
              refine S_iload_n (dc_X10_moved 52 rfl) rfl ?_
              refine Sx.ask (fun _ i94 => ?_)
              refine S_roI (d := k_d K - 1) (e_callV (b := a0) (As := [.int a1]) (rest := []) ok_X10_stateOf rfl (Nat.le_of_ble_eq_true rfl) (dc_X10_moved 53 rfl) ho q2056 q2058 (show e_cl[8]? = some (RX10, TX10, 51) from rfl) (e_sel.of qs90) (e_is_of i94) rfl (Nat.le_of_ble_eq_true rfl)) (by omega) (fun _ e => ct_X10_stateOf (by omega) e) (fun x94 e94 => ?_)
              refine S_istore (L' := [some (.ref a0), some (.int a1), none, some (.int x64), some (.int x94), none, none, none, none, none, none, none, none, none, none]) (dc_X10_moved 54 rfl) rfl ?_
              refine S_aload_n (dc_X10_moved 55 rfl) rfl ?_
              refine S_getA (dc_X10_moved 56 rfl) ho fl_X10_79_8_41 (fun _ _ => rfl) (fun x100 e100 => ?_)
              refine S_iload (dc_X10_moved 57 rfl) rfl ?_
              refine S_iconst_ 0 (dc_X10_moved 58 rfl) rfl ?_
              refine S_iast (dc_X10_moved 59 rfl) (fun h106 e106 => ?_)
              refine S_aload_n (dc_X10_moved 60 rfl) rfl ?_
              refine S_getA (dc_X10_moved 61 rfl) ho fl_X10_82_8_42 (fun _ _ => rfl) (fun x108 e108 => ?_)
              refine S_iconst_ 0 (dc_X10_moved 62 rfl) rfl ?_
              refine S_iload (dc_X10_moved 63 rfl) rfl ?_
              refine S_iast (dc_X10_moved 64 rfl) (fun h114 e114 => ?_)
              refine S_iconst_ 1 (dc_X10_moved 65 rfl) rfl ?_
              refine S_istore (L' := [some (.ref a0), some (.int a1), none, some (.int x64), some (.int x94), some (.int 1), none, none, none, none, none, none, none, none, none]) (dc_X10_moved 66 rfl) rfl ?_
              refine S_iconst_ 0 (dc_X10_moved 67 rfl) rfl ?_
              refine S_istore (L' := [some (.ref a0), some (.int a1), none, some (.int x64), some (.int x94), some (.int 1), some (.int 0), none, none, none, none, none, none, none, none]) (dc_X10_moved 68 rfl) rfl ?_
              refine Sx.regKE1 (pc2 := 362) (L2 := fun (h362_2 : e_H) => [none, none, none, none, none, none, none, none, none, none, none, none, none, none, none]) (st2 := fun (h362_2 : e_H) => []) (h2 := fun (h362_2 : e_H) => h362_2) ?_ (fun Q2 hK2 hE2 => ?_)
              · intro h362_2
                show Sx K cX10_moved 362 [none, none, none, none, none, none, none, none, none, none, none, none, none, none, none] [] h362_2 _ _
                refine S_iconst_ (-1) (dc_X10_moved 196 rfl) rfl ?_
                exact S_iret (dc_X10_moved 197 rfl) hT rfl (e_rqI hr)
              · have hK2 : ∀ (h362_2 : e_H), Sx K cX10_moved 362 [none, none, none, none, none, none, none, none, none, none, none, none, none, none, none] [] h362_2 (some (.ok h362_2)) Q2 := hK2
                have ih2 : ∀ (n : Nat) (x5_121 : Int32) (x6_121 : Int32) (h_121 : e_H), Sx K cX10_moved 121 [some (.ref a0), none, none, some (.int x64), none, some (.int x5_121), some (.int x6_121), none, none, none, none, none, none, none, none] [] h_121 (lp_X10_moved_121 F a0 x64 n x5_121 x6_121 h_121) Q2 := by
                  intro n
                  induction n with
                  | zero => intro x5_121 x6_121 h_121; exact Sx.none
                  | succ n ih2 =>
                    intro x5_121 x6_121 h_121
                    rw [lp_X10_moved_121.eq_2]
                    refine S_iload (dc_X10_moved 69 rfl) rfl ?_
                    refine S_iload (dc_X10_moved 70 rfl) rfl ?_
                    refine S_icmp_ge 362 (dc_X10_moved 71 rfl) rfl (fun c125 => ?_) (fun c125 => ?_)
                    · refine Sx.cut [false, true, true, false, true, false, false, true, true, true, true, true, true, true, true] ?_
                      exact hK2 h_121
                    · refine S_aload_n (dc_X10_moved 72 rfl) rfl ?_
                      refine S_getA (dc_X10_moved 73 rfl) ho fl_X10_82_8_42 (fun _ _ => rfl) (fun x129 e129 => ?_)
                      refine S_iload (dc_X10_moved 74 rfl) rfl ?_
                      refine S_iald (dc_X10_moved 75 rfl) (fun x134 e134 => ?_)
                      refine S_istore (L' := [some (.ref a0), none, none, some (.int x64), none, some (.int x5_121), some (.int x6_121), some (.int x134), none, none, none, none, none, none, none]) (dc_X10_moved 76 rfl) rfl ?_
                      refine S_iload (dc_X10_moved 77 rfl) rfl ?_
                      refine S_roI (d := k_d K - 1) (e_callS (As := [.int x134]) (rest := []) ok_X10_setOf rfl (Nat.le_of_ble_eq_true rfl) (dc_X10_moved 78 rfl) ho q2064 q2065 rfl (Nat.le_of_ble_eq_true rfl)) (by omega) (fun _ e => ct_X10_setOf (by omega) e) (fun x139 e139 => ?_)
                      refine S_iload_n (dc_X10_moved 79 rfl) rfl ?_
                      refine S_icmp_ne 154 (dc_X10_moved 80 rfl) rfl (fun c143 => ?_) (fun c143 => ?_)
                      · refine S_iconst_ 1 (dc_X10_moved 86 rfl) rfl ?_
                        refine S_istore (L' := [some (.ref a0), none, none, some (.int x64), none, some (.int x5_121), some (.int x6_121), some (.int x134), some (.int 1), none, none, none, none, none, none]) (dc_X10_moved 87 rfl) rfl ?_
                        refine S_iconst_ 0 (dc_X10_moved 88 rfl) rfl ?_
                        refine S_istore (L' := [some (.ref a0), none, none, some (.int x64), none, some (.int x5_121), some (.int x6_121), some (.int x134), some (.int 1), some (.int 0), none, none, none, none, none]) (dc_X10_moved 89 rfl) rfl ?_
                        refine Sx.regK2 (pc2 := 356) (L2 := fun (x5_356_3 : Int32) (h356_3 : e_H) => [some (.ref a0), none, none, some (.int x64), none, some (.int x5_356_3), some (.int x6_121), none, none, none, none, none, none, none, none]) (st2 := fun (x5_356_3 : Int32) (h356_3 : e_H) => []) (h2 := fun (x5_356_3 : Int32) (h356_3 : e_H) => h356_3) ?_ (fun Q3 hK3 => ?_)
                        · intro x5_356_3 h356_3
                          show Sx K cX10_moved 356 [some (.ref a0), none, none, some (.int x64), none, some (.int x5_356_3), some (.int x6_121), none, none, none, none, none, none, none, none] [] h356_3 _ _
                          refine S_iincN 1 (L' := fun x356 => [some (.ref a0), none, none, some (.int x64), none, some (.int x5_356_3), some (.int x356), none, none, none, none, none, none, none, none]) (dc_X10_moved 194 rfl) rfl rfl (fun _ => rfl) (fun x356 n356 => ?_)
                          refine S_goto 121 (dc_X10_moved 195 rfl) rfl ?_
                          exact ih2 x5_356_3 x356 h356_3
                        · have hK3 : ∀ (x5_356_3 : Int32) (h356_3 : e_H), Sx K cX10_moved 356 [some (.ref a0), none, none, some (.int x64), none, some (.int x5_356_3), some (.int x6_121), none, none, none, none, none, none, none, none] [] h356_3 (some (x5_356_3, h356_3)) Q3 := hK3
                          have ih3 : ∀ (n : Nat) (x5_160 : Int32) (x8_160 : Int32) (x9_160 : Int32) (h_160 : e_H), Sx K cX10_moved 160 [some (.ref a0), none, none, some (.int x64), none, some (.int x5_160), some (.int x6_121), some (.int x134), some (.int x8_160), some (.int x9_160), none, none, none, none, none] [] h_160 (lp_X10_moved_160 F a0 x134 n x5_160 x8_160 x9_160 h_160) Q3 := by
                            intro n
                            induction n with
                            | zero => intro x5_160 x8_160 x9_160 h_160; exact Sx.none
                            | succ n ih3 =>
                              intro x5_160 x8_160 x9_160 h_160
                              rw [lp_X10_moved_160.eq_2]
                              refine S_iload (dc_X10_moved 90 rfl) rfl ?_
                              refine S_iconst_ 3 (dc_X10_moved 91 rfl) rfl ?_
                              refine S_icmp_ge 356 (dc_X10_moved 92 rfl) rfl (fun c163 => ?_) (fun c163 => ?_)
                              · refine Sx.cut [true, true, true, true, true, true, true, false, false, false, true, true, true, true, true] ?_
                                exact hK3 x5_160 h_160
                              · refine S_iload (dc_X10_moved 93 rfl) rfl ?_
                                refine S_iload (dc_X10_moved 94 rfl) rfl ?_
                                refine Sx.ncond (fun c170 => ?_)
                                refine S_idiv (dc_X10_moved 95 rfl) c170 ?_
                                refine S_bipush_ 36 (dc_X10_moved 96 rfl) rfl ?_
                                refine S_irem (dc_X10_moved 97 rfl) (by decide) ?_
                                refine Sx.nameI (fun x174 n174 => ?_)
                                refine S_istore (L' := [some (.ref a0), none, none, some (.int x64), none, some (.int x5_160), some (.int x6_121), some (.int x134), some (.int x8_160), some (.int x9_160), some (.int x174), none, none, none, none]) (dc_X10_moved 98 rfl) rfl ?_
                                refine S_iconst_ 0 (dc_X10_moved 99 rfl) rfl ?_
                                refine S_istore (L' := [some (.ref a0), none, none, some (.int x64), none, some (.int x5_160), some (.int x6_121), some (.int x134), some (.int x8_160), some (.int x9_160), some (.int x174), some (.int 0), none, none, none]) (dc_X10_moved 100 rfl) rfl ?_
                                refine Sx.regK2 (pc2 := 343) (L2 := fun (x5_343_4 : Int32) (h343_4 : e_H) => [some (.ref a0), none, none, some (.int x64), none, some (.int x5_343_4), some (.int x6_121), some (.int x134), some (.int x8_160), some (.int x9_160), none, none, none, none, none]) (st2 := fun (x5_343_4 : Int32) (h343_4 : e_H) => []) (h2 := fun (x5_343_4 : Int32) (h343_4 : e_H) => h343_4) ?_ (fun Q4 hK4 => ?_)
                                · intro x5_343_4 h343_4
                                  show Sx K cX10_moved 343 [some (.ref a0), none, none, some (.int x64), none, some (.int x5_343_4), some (.int x6_121), some (.int x134), some (.int x8_160), some (.int x9_160), none, none, none, none, none] [] h343_4 _ _
                                  refine S_iload (dc_X10_moved 188 rfl) rfl ?_
                                  refine S_bipush_ 36 (dc_X10_moved 189 rfl) rfl ?_
                                  refine S_imul (dc_X10_moved 190 rfl) ?_
                                  refine Sx.nameI (fun x348 n348 => ?_)
                                  refine S_istore (L' := [some (.ref a0), none, none, some (.int x64), none, some (.int x5_343_4), some (.int x6_121), some (.int x134), some (.int x348), some (.int x9_160), none, none, none, none, none]) (dc_X10_moved 191 rfl) rfl ?_
                                  refine S_iincN 1 (L' := fun x350 => [some (.ref a0), none, none, some (.int x64), none, some (.int x5_343_4), some (.int x6_121), some (.int x134), some (.int x348), some (.int x350), none, none, none, none, none]) (dc_X10_moved 192 rfl) rfl rfl (fun _ => rfl) (fun x350 n350 => ?_)
                                  refine S_goto 160 (dc_X10_moved 193 rfl) rfl ?_
                                  exact ih3 x5_343_4 x348 x350 h343_4
                                · have hK4 : ∀ (x5_343_4 : Int32) (h343_4 : e_H), Sx K cX10_moved 343 [some (.ref a0), none, none, some (.int x64), none, some (.int x5_343_4), some (.int x6_121), some (.int x134), some (.int x8_160), some (.int x9_160), none, none, none, none, none] [] h343_4 (some (x5_343_4, h343_4)) Q4 := hK4
                                  have ih4 : ∀ (n : Nat) (x5_179 : Int32) (x11_179 : Int32) (h_179 : e_H), Sx K cX10_moved 179 [some (.ref a0), none, none, some (.int x64), none, some (.int x5_179), some (.int x6_121), some (.int x134), some (.int x8_160), some (.int x9_160), some (.int x174), some (.int x11_179), none, none, none] [] h_179 (lp_X10_moved_179 F a0 x134 x8_160 x174 n x5_179 x11_179 h_179) Q4 := by
                                    intro n
                                    induction n with
                                    | zero => intro x5_179 x11_179 h_179; exact Sx.none
                                    | succ n ih4 =>
                                      intro x5_179 x11_179 h_179
                                      rw [lp_X10_moved_179.eq_2]
                                      refine S_iload (dc_X10_moved 101 rfl) rfl ?_
                                      refine S_iconst_ 4 (dc_X10_moved 102 rfl) rfl ?_
                                      refine S_icmp_ge 343 (dc_X10_moved 103 rfl) rfl (fun c182 => ?_) (fun c182 => ?_)
                                      · refine Sx.cut [true, true, true, true, true, true, true, true, true, true, false, false, true, true, true] ?_
                                        exact hK4 x5_179 h_179
                                      · refine S_iload (dc_X10_moved 104 rfl) rfl ?_
                                        refine S_aload_n (dc_X10_moved 105 rfl) rfl ?_
                                        refine S_getA (dc_X10_moved 106 rfl) ho fl_X10_13_8_15 (fun _ _ => rfl) (fun x188 e188 => ?_)
                                        refine S_iconst_ 0 (dc_X10_moved 107 rfl) rfl ?_
                                        refine S_iald (dc_X10_moved 108 rfl) (fun x192 e192 => ?_)
                                        refine Sx.ncond (fun c193 => ?_)
                                        refine S_irem (dc_X10_moved 109 rfl) c193 ?_
                                        refine S_iload (dc_X10_moved 110 rfl) rfl ?_
                                        refine S_iconst_ 1 (dc_X10_moved 111 rfl) rfl ?_
                                        refine Sx.regK1 (pc2 := 215) (L2 := fun (s215_5 : Int32) => [some (.ref a0), none, none, some (.int x64), none, some (.int x5_179), some (.int x6_121), some (.int x134), some (.int x8_160), some (.int x9_160), some (.int x174), some (.int x11_179), none, none, none]) (st2 := fun (s215_5 : Int32) => [.int s215_5, .int (x174 - x174 / x192 * x192)]) (h2 := fun (s215_5 : Int32) => h_179) ?_ (fun Q5 hK5 => ?_)
                                        · intro s215_5
                                          show Sx K cX10_moved 215 [some (.ref a0), none, none, some (.int x64), none, some (.int x5_179), some (.int x6_121), some (.int x134), some (.int x8_160), some (.int x9_160), some (.int x174), some (.int x11_179), none, none, none] [.int s215_5, .int (x174 - x174 / x192 * x192)] h_179 _ _
                                          refine S_iadd (dc_X10_moved 121 rfl) ?_
                                          refine Sx.nameI (fun x216 n216 => ?_)
                                          refine S_istore (L' := [some (.ref a0), none, none, some (.int x64), none, some (.int x5_179), some (.int x6_121), some (.int x134), some (.int x8_160), some (.int x9_160), some (.int x174), some (.int x11_179), some (.int x216), none, none]) (dc_X10_moved 122 rfl) rfl ?_
                                          refine S_iload (dc_X10_moved 123 rfl) rfl ?_
                                          refine S_aload_n (dc_X10_moved 124 rfl) rfl ?_
                                          refine S_getA (dc_X10_moved 125 rfl) ho fl_X10_13_8_15 (fun _ _ => rfl) (fun x221 e221 => ?_)
                                          refine S_iconst_ 0 (dc_X10_moved 126 rfl) rfl ?_
                                          refine S_iald (dc_X10_moved 127 rfl) (fun x225 e225 => ?_)
                                          refine Sx.ncond (fun c226 => ?_)
                                          refine S_idiv (dc_X10_moved 128 rfl) c226 ?_
                                          refine S_iload (dc_X10_moved 129 rfl) rfl ?_
                                          refine S_iconst_ 2 (dc_X10_moved 130 rfl) rfl ?_
                                          refine Sx.regK1 (pc2 := 247) (L2 := fun (s247_6 : Int32) => [some (.ref a0), none, none, some (.int x64), none, some (.int x5_179), some (.int x6_121), some (.int x134), some (.int x8_160), some (.int x9_160), some (.int x174), some (.int x11_179), some (.int x216), none, none]) (st2 := fun (s247_6 : Int32) => [.int s247_6, .int (x174 / x225)]) (h2 := fun (s247_6 : Int32) => h_179) ?_ (fun Q6 hK6 => ?_)
                                          · intro s247_6
                                            show Sx K cX10_moved 247 [some (.ref a0), none, none, some (.int x64), none, some (.int x5_179), some (.int x6_121), some (.int x134), some (.int x8_160), some (.int x9_160), some (.int x174), some (.int x11_179), some (.int x216), none, none] [.int s247_6, .int (x174 / x225)] h_179 _ _
                                            refine S_iadd (dc_X10_moved 139 rfl) ?_
                                            refine Sx.nameI (fun x248 n248 => ?_)
                                            refine S_istore (L' := [some (.ref a0), none, none, some (.int x64), none, some (.int x5_179), some (.int x6_121), some (.int x134), some (.int x8_160), some (.int x9_160), some (.int x174), some (.int x11_179), some (.int x216), some (.int x248), none]) (dc_X10_moved 140 rfl) rfl ?_
                                            refine S_aload_n (dc_X10_moved 141 rfl) rfl ?_
                                            refine S_getA (dc_X10_moved 142 rfl) ho fl_X10_13_8_15 (fun _ _ => rfl) (fun x251 e251 => ?_)
                                            refine S_iload (dc_X10_moved 143 rfl) rfl ?_
                                            refine S_iload (dc_X10_moved 144 rfl) rfl ?_
                                            refine S_roI (d := k_d K - 1) (e_callS (As := [.ref x251, .int x216, .int x248]) (rest := []) ok_X10_isPeg rfl (Nat.le_of_ble_eq_true rfl) (dc_X10_moved 145 rfl) ho q1741 q1742 rfl (Nat.le_of_ble_eq_true rfl)) (by omega) (fun _ e => ct_X10_isPeg (by omega) e) (fun x258 e258 => ?_)
                                            refine Sx.regK2 (pc2 := 337) (L2 := fun (x5_337_7 : Int32) (h337_7 : e_H) => [some (.ref a0), none, none, some (.int x64), none, some (.int x5_337_7), some (.int x6_121), some (.int x134), some (.int x8_160), some (.int x9_160), some (.int x174), some (.int x11_179), none, none, none]) (st2 := fun (x5_337_7 : Int32) (h337_7 : e_H) => []) (h2 := fun (x5_337_7 : Int32) (h337_7 : e_H) => h337_7) ?_ (fun Q7 hK7 => ?_)
                                            · intro x5_337_7 h337_7
                                              show Sx K cX10_moved 337 [some (.ref a0), none, none, some (.int x64), none, some (.int x5_337_7), some (.int x6_121), some (.int x134), some (.int x8_160), some (.int x9_160), some (.int x174), some (.int x11_179), none, none, none] [] h337_7 _ _
                                              refine S_iincN 1 (L' := fun x337 => [some (.ref a0), none, none, some (.int x64), none, some (.int x5_337_7), some (.int x6_121), some (.int x134), some (.int x8_160), some (.int x9_160), some (.int x174), some (.int x337), none, none, none]) (dc_X10_moved 186 rfl) rfl rfl (fun _ => rfl) (fun x337 n337 => ?_)
                                              refine S_goto 179 (dc_X10_moved 187 rfl) rfl ?_
                                              exact ih4 x5_337_7 x337 h337_7
                                            · have hK7 : ∀ (x5_337_7 : Int32) (h337_7 : e_H), Sx K cX10_moved 337 [some (.ref a0), none, none, some (.int x64), none, some (.int x5_337_7), some (.int x6_121), some (.int x134), some (.int x8_160), some (.int x9_160), some (.int x174), some (.int x11_179), none, none, none] [] h337_7 (some (x5_337_7, h337_7)) Q7 := hK7
                                              refine S_if_ne 267 (dc_X10_moved 146 rfl) rfl (fun c261 => ?_) (fun c261 => ?_)
                                              · refine S_iload (dc_X10_moved 148 rfl) rfl ?_
                                                refine S_iload (dc_X10_moved 149 rfl) rfl ?_
                                                refine S_aload_n (dc_X10_moved 150 rfl) rfl ?_
                                                refine S_iload (dc_X10_moved 151 rfl) rfl ?_
                                                refine S_iload (dc_X10_moved 152 rfl) rfl ?_
                                                refine S_roI (d := k_d K - 1) (e_callV (b := a0) (As := [.int x216, .int x248]) (rest := [.int x8_160, .int x134]) ok_X10_placeOf rfl (Nat.le_of_ble_eq_true rfl) (dc_X10_moved 153 rfl) ho q2060 q2062 (show e_cl[8]? = some (RX10, TX10, 51) from rfl) (e_sel.of qs91) (e_fA_of e188).1 rfl (Nat.le_of_ble_eq_true rfl)) (by omega) (fun _ e => ct_X10_placeOf (by omega) e) (fun x276 e276 => ?_)
                                                refine S_iload (dc_X10_moved 154 rfl) rfl ?_
                                                refine S_isub (dc_X10_moved 155 rfl) ?_
                                                refine S_imul (dc_X10_moved 156 rfl) ?_
                                                refine S_iadd (dc_X10_moved 157 rfl) ?_
                                                refine Sx.nameI (fun x284 n284 => ?_)
                                                refine S_istore (L' := [some (.ref a0), none, none, some (.int x64), none, some (.int x5_179), some (.int x6_121), some (.int x134), some (.int x8_160), some (.int x9_160), some (.int x174), some (.int x11_179), some (.int x216), some (.int x248), some (.int x284)]) (dc_X10_moved 158 rfl) rfl ?_
                                                refine S_aload_n (dc_X10_moved 159 rfl) rfl ?_
                                                refine S_getA (dc_X10_moved 160 rfl) ho fl_X10_79_8_41 (fun _ _ => rfl) (fun x287 e287 => ?_)
                                                refine S_iload (dc_X10_moved 161 rfl) rfl ?_
                                                refine S_iald (dc_X10_moved 162 rfl) (fun x292 e292 => ?_)
                                                refine S_iconst_ (-1) (dc_X10_moved 163 rfl) rfl ?_
                                                refine S_icmp_ne 337 (dc_X10_moved 164 rfl) rfl (fun c294 => ?_) (fun c294 => ?_)
                                                · refine Sx.cut [true, true, true, true, true, true, true, true, true, true, true, true, false, false, false] ?_
                                                  exact hK7 x5_179 h_179
                                                · refine S_aload_n (dc_X10_moved 165 rfl) rfl ?_
                                                  refine S_iload (dc_X10_moved 166 rfl) rfl ?_
                                                  refine S_roI (d := k_d K - 1) (e_callV (b := a0) (As := [.int x284]) (rest := []) ok_X10_bends rfl (Nat.le_of_ble_eq_true rfl) (dc_X10_moved 167 rfl) ho q2067 q2069 (show e_cl[8]? = some (RX10, TX10, 51) from rfl) (e_sel.of qs92) (e_fA_of e188).1 rfl (Nat.le_of_ble_eq_true rfl)) (by omega) (fun _ e => ct_X10_bends (by omega) e) (fun x300 e300 => ?_)
                                                  refine S_if_ne 309 (dc_X10_moved 168 rfl) rfl (fun c303 => ?_) (fun c303 => ?_)
                                                  · refine S_aload_n (dc_X10_moved 170 rfl) rfl ?_
                                                    refine S_getA (dc_X10_moved 171 rfl) ho fl_X10_79_8_41 (fun _ _ => rfl) (fun x310 e310 => ?_)
                                                    refine S_iload (dc_X10_moved 172 rfl) rfl ?_
                                                    refine S_aload_n (dc_X10_moved 173 rfl) rfl ?_
                                                    refine S_getA (dc_X10_moved 174 rfl) ho fl_X10_79_8_41 (fun _ _ => rfl) (fun x316 e316 => ?_)
                                                    refine S_iload (dc_X10_moved 175 rfl) rfl ?_
                                                    refine S_iald (dc_X10_moved 176 rfl) (fun x321 e321 => ?_)
                                                    refine S_iconst_ 1 (dc_X10_moved 177 rfl) rfl ?_
                                                    refine S_iadd (dc_X10_moved 178 rfl) ?_
                                                    refine S_iast (dc_X10_moved 179 rfl) (fun h324 e324 => ?_)
                                                    refine S_aload_n (dc_X10_moved 180 rfl) rfl ?_
                                                    refine S_getA (dc_X10_moved 181 rfl) ho fl_X10_82_8_42 (fun _ _ => rfl) (fun x326 e326 => ?_)
                                                    refine S_iload (dc_X10_moved 182 rfl) rfl ?_
                                                    refine S_iload (dc_X10_moved 183 rfl) rfl ?_
                                                    refine S_iast (dc_X10_moved 184 rfl) (fun h333 e333 => ?_)
                                                    refine S_iincN 1 (L' := fun x334 => [some (.ref a0), none, none, some (.int x64), none, some (.int x334), some (.int x6_121), some (.int x134), some (.int x8_160), some (.int x9_160), some (.int x174), some (.int x11_179), some (.int x216), some (.int x248), some (.int x284)]) (dc_X10_moved 185 rfl) rfl rfl (fun _ => rfl) (fun x334 n334 => ?_)
                                                    refine Sx.cut [true, true, true, true, true, true, true, true, true, true, true, true, false, false, false] ?_
                                                    exact hK7 x334 h333
                                                  · refine S_goto 337 (dc_X10_moved 169 rfl) rfl ?_
                                                    refine Sx.cut [true, true, true, true, true, true, true, true, true, true, true, true, false, false, false] ?_
                                                    exact hK7 x5_179 h_179
                                              · refine S_goto 337 (dc_X10_moved 147 rfl) rfl ?_
                                                refine Sx.cut [true, true, true, true, true, true, true, true, true, true, true, true, false, false, true] ?_
                                                exact hK7 x5_179 h_179
                                          · have hK6 : ∀ (s247_6 : Int32), Sx K cX10_moved 247 [some (.ref a0), none, none, some (.int x64), none, some (.int x5_179), some (.int x6_121), some (.int x134), some (.int x8_160), some (.int x9_160), some (.int x174), some (.int x11_179), some (.int x216), none, none] [.int s247_6, .int (x174 / x225)] h_179 (some s247_6) Q6 := hK6
                                            refine S_icmp_ne 237 (dc_X10_moved 131 rfl) rfl (fun c230 => ?_) (fun c230 => ?_)
                                            · refine S_iload (dc_X10_moved 134 rfl) rfl ?_
                                              refine S_if_ne 246 (dc_X10_moved 135 rfl) rfl (fun c239 => ?_) (fun c239 => ?_)
                                              · refine S_iconst_ 0 (dc_X10_moved 138 rfl) rfl ?_
                                                exact hK6 0
                                              · refine S_iconst_ (-1) (dc_X10_moved 136 rfl) rfl ?_
                                                refine S_goto 247 (dc_X10_moved 137 rfl) rfl ?_
                                                exact hK6 (-1)
                                            · refine S_iconst_ 1 (dc_X10_moved 132 rfl) rfl ?_
                                              refine S_goto 247 (dc_X10_moved 133 rfl) rfl ?_
                                              exact hK6 1
                                        · have hK5 : ∀ (s215_5 : Int32), Sx K cX10_moved 215 [some (.ref a0), none, none, some (.int x64), none, some (.int x5_179), some (.int x6_121), some (.int x134), some (.int x8_160), some (.int x9_160), some (.int x174), some (.int x11_179), none, none, none] [.int s215_5, .int (x174 - x174 / x192 * x192)] h_179 (some s215_5) Q5 := hK5
                                          refine S_icmp_ne 204 (dc_X10_moved 112 rfl) rfl (fun c197 => ?_) (fun c197 => ?_)
                                          · refine S_iload (dc_X10_moved 115 rfl) rfl ?_
                                            refine S_iconst_ 3 (dc_X10_moved 116 rfl) rfl ?_
                                            refine S_icmp_ne 214 (dc_X10_moved 117 rfl) rfl (fun c207 => ?_) (fun c207 => ?_)
                                            · refine S_iconst_ 0 (dc_X10_moved 120 rfl) rfl ?_
                                              exact hK5 0
                                            · refine S_iconst_ (-1) (dc_X10_moved 118 rfl) rfl ?_
                                              refine S_goto 215 (dc_X10_moved 119 rfl) rfl ?_
                                              exact hK5 (-1)
                                          · refine S_iconst_ 1 (dc_X10_moved 113 rfl) rfl ?_
                                            refine S_goto 215 (dc_X10_moved 114 rfl) rfl ?_
                                            exact hK5 1
                                  exact ih4 F x5_160 0 h_160
                          exact ih3 F x5_121 1 0 h_121
                      · refine S_aload_n (dc_X10_moved 81 rfl) rfl ?_
                        refine S_getA (dc_X10_moved 82 rfl) ho fl_X10_79_8_41 (fun _ _ => rfl) (fun x147 e147 => ?_)
                        refine S_iload (dc_X10_moved 83 rfl) rfl ?_
                        refine S_iald (dc_X10_moved 84 rfl) (fun x152 e152 => ?_)
                        refine Sx.err hE2 ?_
                        exact S_iret (dc_X10_moved 85 rfl) hT rfl (e_rqI hr)
                refine Sx.cut [true, false, true, true, false, true, true, true, true, true, true, true, true, true, true] ?_
                exact ih2 F 1 0 h114
            · have hK1 : ∀ (h92_1 : e_H), Sx K cX10_moved 92 [some (.ref a0), some (.int a1), none, some (.int x64), none, none, none, none, none, none, none, none, none, none, none] [] h92_1 (some h92_1) Q1 := hK1
              have ih1 : ∀ (n : Nat) (x4_71 : Int32) (h_71 : e_H), Sx K cX10_moved 71 [some (.ref a0), some (.int a1), none, some (.int x64), some (.int x4_71), none, none, none, none, none, none, none, none, none, none] [] h_71 (lp_X10_moved_71 F a0 n x4_71 h_71) Q1 := by
                intro n
                induction n with
                | zero => intro x4_71 h_71; exact Sx.none
                | succ n ih1 =>
                  intro x4_71 h_71
                  rw [lp_X10_moved_71.eq_2]
                  refine S_iload (dc_X10_moved 41 rfl) rfl ?_
                  refine S_ldc 46656 (dc_X10_moved 42 rfl) ho q1470 ?_
                  refine S_icmp_ge 92 (dc_X10_moved 43 rfl) rfl (fun c75 => ?_) (fun c75 => ?_)
                  · refine Sx.cut [true, true, true, true, false, true, true, true, true, true, true, true, true, true, true] ?_
                    exact hK1 h_71
                  · refine S_aload_n (dc_X10_moved 44 rfl) rfl ?_
                    refine S_getA (dc_X10_moved 45 rfl) ho fl_X10_79_8_41 (fun _ _ => rfl) (fun x79 e79 => ?_)
                    refine S_iload (dc_X10_moved 46 rfl) rfl ?_
                    refine S_iconst_ (-1) (dc_X10_moved 47 rfl) rfl ?_
                    refine S_iast (dc_X10_moved 48 rfl) (fun h85 e85 => ?_)
                    refine S_iincN 1 (L' := fun x86 => [some (.ref a0), some (.int a1), none, some (.int x64), some (.int x86), none, none, none, none, none, none, none, none, none, none]) (dc_X10_moved 49 rfl) rfl rfl (fun _ => rfl) (fun x86 n86 => ?_)
                    refine S_goto 71 (dc_X10_moved 50 rfl) rfl ?_
                    exact ih1 x86 h85
              refine Sx.cut [true, true, false, true, true, true, true, true, true, true, true, true, true, true, true] ?_
              exact ih1 F 0 h2
          · refine S_iconst_ (-1) (dc_X10_moved 32 rfl) rfl ?_
            exact S_iret (dc_X10_moved 33 rfl) hT rfl (e_rqI hr)
abbrev cX10_isSmall : ByteArray := prog_18_method_120_code
def yX10_isSmall : MethodName := ⟨"PegBandsModel", "isSmall", "()Z"⟩
def tb_X10_isSmall : List (Nat × Instr × Nat) := [(0, .aload_n 0, 1), (1, .getfield 13, 3), (4, .iconst 0, 1), (5, .iaload, 1), (6, .ifCond .le 32, 3), (9, .aload_n 0, 1), (10, .getfield 13, 3), (13, .iconst 0, 1), (14, .iaload, 1), (15, .aload_n 0, 1), (16, .getfield 13, 3), (19, .iconst 1, 1), (20, .iaload, 1), (21, .imul, 1), (22, .aload_n 0, 1), (23, .getfield 13, 3), (26, .iconst 3, 1), (27, .iaload, 1), (28, .isub, 1), (29, .bipush 9, 2), (31, .if_icmp .gt 7, 3), (34, .iconst 1, 1), (35, .goto 4, 3), (38, .iconst 0, 1), (39, .ireturn, 1)]
theorem tk_X10_isSmall : ∀ q ∈ tb_X10_isSmall, decode cX10_isSmall q.1 = .ok q.2 := by decide +kernel
theorem dc_X10_isSmall (k : Nat) {pc n : Nat} {i : Instr} (h : tb_X10_isSmall[k]? = some (pc, i, n)) : decode cX10_isSmall pc = .ok (i, n) := tk_X10_isSmall (pc, i, n) (List.mem_of_getElem? h)
abbrev mX10_isSmall : e_M := (yX10_isSmall, cX10_isSmall, 1, some (.boolean), [])
theorem ok_X10_isSmall : e_mok mX10_isSmall 0 := ⟨q2078, q119, by decide +kernel, fun sig h => by cases h; rfl⟩
def f_X10_isSmall (h : e_H) (a0 : Nat) : Option Int32 :=
  Option.bind (e_fA h a0 8 15) (fun x1 =>
  Option.bind (e_aI h x1 0 0) (fun x5 =>
  if x5 ≤ 0 then
    some 0
  else
    Option.bind (e_fA h a0 8 15) (fun x10 =>
    Option.bind (e_aI h x10 0 0) (fun x14 =>
    Option.bind (e_fA h a0 8 15) (fun x16 =>
    Option.bind (e_aI h x16 0 1) (fun x20 =>
    Option.bind (e_fA h a0 8 15) (fun x23 =>
    Option.bind (e_aI h x23 0 3) (fun x27 =>
    if 9 < ((x14 * x20) - x27) then
      some 0
    else
      some 1))))))))
set_option maxHeartbeats 4000000 in
set_option maxRecDepth 100000 in
theorem ct_X10_isSmall {l : Launch} {D : e_D} {B : Heap} {d : Nat} {h : e_H} {a0 : Nat} {v : Int32} (hd : 1 ≤ d) (e : f_X10_isSmall h a0 = some v) : e_Run l D B d mX10_isSmall [.ref a0] h (.ok (some (.int v)), h) := by
  refine e_start [some (.ref a0)] (by decide) rfl rfl rfl (Nat.le_of_ble_eq_true rfl) (fun K hl0 hD0 hB0 hM hd0 hr => ?_)
  subst hl0 hD0 hB0 hd0
  have ho : (k_M K).1.cls = "PegBandsModel" := by rw [hM]; rfl
  have hT : (k_M K).2.2.2.1 = some (.boolean) := by rw [hM]
  refine (show Sx K cX10_isSmall 0 [some (.ref a0)] [] h (f_X10_isSmall h a0) (fun w => w = v) from ?_) _ e rfl
  clear e
  unfold f_X10_isSmall
  refine S_aload_n (dc_X10_isSmall 0 rfl) rfl ?_
  refine S_getA (dc_X10_isSmall 1 rfl) ho fl_X10_13_8_15 (fun _ _ => rfl) (fun x1 e1 => ?_)
  refine S_iconst_ 0 (dc_X10_isSmall 2 rfl) rfl ?_
  refine S_iald (dc_X10_isSmall 3 rfl) (fun x5 e5 => ?_)
  refine S_if_le 38 (dc_X10_isSmall 4 rfl) rfl (fun c6 => ?_) (fun c6 => ?_)
  · refine S_iconst_ 0 (dc_X10_isSmall 23 rfl) rfl ?_
    exact S_iret (dc_X10_isSmall 24 rfl) hT rfl (fun q => by cases q; exact hr)
  · refine S_aload_n (dc_X10_isSmall 5 rfl) rfl ?_
    refine S_getA (dc_X10_isSmall 6 rfl) ho fl_X10_13_8_15 (fun _ _ => rfl) (fun x10 e10 => ?_)
    refine S_iconst_ 0 (dc_X10_isSmall 7 rfl) rfl ?_
    refine S_iald (dc_X10_isSmall 8 rfl) (fun x14 e14 => ?_)
    refine S_aload_n (dc_X10_isSmall 9 rfl) rfl ?_
    refine S_getA (dc_X10_isSmall 10 rfl) ho fl_X10_13_8_15 (fun _ _ => rfl) (fun x16 e16 => ?_)
    refine S_iconst_ 1 (dc_X10_isSmall 11 rfl) rfl ?_
    refine S_iald (dc_X10_isSmall 12 rfl) (fun x20 e20 => ?_)
    refine S_imul (dc_X10_isSmall 13 rfl) ?_
    refine S_aload_n (dc_X10_isSmall 14 rfl) rfl ?_
    refine S_getA (dc_X10_isSmall 15 rfl) ho fl_X10_13_8_15 (fun _ _ => rfl) (fun x23 e23 => ?_)
    refine S_iconst_ 3 (dc_X10_isSmall 16 rfl) rfl ?_
    refine S_iald (dc_X10_isSmall 17 rfl) (fun x27 e27 => ?_)
    refine S_isub (dc_X10_isSmall 18 rfl) ?_
    refine S_bipush_ 9 (dc_X10_isSmall 19 rfl) rfl ?_
    refine S_icmp_gt 38 (dc_X10_isSmall 20 rfl) rfl (fun c31 => ?_) (fun c31 => ?_)
    · refine S_iconst_ 0 (dc_X10_isSmall 23 rfl) rfl ?_
      exact S_iret (dc_X10_isSmall 24 rfl) hT rfl (fun q => by cases q; exact hr)
    · refine S_iconst_ 1 (dc_X10_isSmall 21 rfl) rfl ?_
      refine S_goto 39 (dc_X10_isSmall 22 rfl) rfl ?_
      exact S_iret (dc_X10_isSmall 24 rfl) hT rfl (fun q => by cases q; exact hr)
abbrev cX10_isFreeEnd : ByteArray := prog_18_method_121_code
def yX10_isFreeEnd : MethodName := ⟨"PegBandsModel", "isFreeEnd", "(I)Z"⟩
def tb_X10_isFreeEnd : List (Nat × Instr × Nat) := [(0, .iconst 0, 1), (1, .istore_n 2, 1), (2, .iload_n 2, 1), (3, .iconst 2, 1), (4, .aload_n 0, 1), (5, .getfield 13, 3), (8, .sipush 261, 3), (11, .iaload, 1), (12, .imul, 1), (13, .if_icmp .ge 25, 3), (16, .aload_n 0, 1), (17, .getfield 13, 3), (20, .sipush 262, 3), (23, .iload_n 2, 1), (24, .iadd, 1), (25, .iaload, 1), (26, .iload_n 1, 1), (27, .if_icmp .ne 5, 3), (30, .iconst 0, 1), (31, .ireturn, 1), (32, .iinc 2 1, 3), (35, .goto (-33), 3), (38, .aload_n 0, 1), (39, .iload_n 1, 1), (40, .invokevirtual 282, 3), (43, .ifCond .eq 25, 3), (46, .aload_n 0, 1), (47, .getfield 13, 3), (50, .iload_n 1, 1), (51, .bipush 10, 2), (53, .irem, 1), (54, .iload_n 1, 1), (55, .bipush 10, 2), (57, .idiv, 1), (58, .invokestatic 226, 3), (61, .ifCond .eq 7, 3), (64, .iconst 1, 1), (65, .goto 4, 3), (68, .iconst 0, 1), (69, .ireturn, 1)]
theorem tk_X10_isFreeEnd : ∀ q ∈ tb_X10_isFreeEnd, decode cX10_isFreeEnd q.1 = .ok q.2 := by decide +kernel
theorem dc_X10_isFreeEnd (k : Nat) {pc n : Nat} {i : Instr} (h : tb_X10_isFreeEnd[k]? = some (pc, i, n)) : decode cX10_isFreeEnd pc = .ok (i, n) := tk_X10_isFreeEnd (pc, i, n) (List.mem_of_getElem? h)
abbrev mX10_isFreeEnd : e_M := (yX10_isFreeEnd, cX10_isFreeEnd, 3, some (.boolean), [])
theorem ok_X10_isFreeEnd : e_mok mX10_isFreeEnd 1 := ⟨q2086, q119, by decide +kernel, fun sig h => by cases h; rfl⟩
def lp_X10_isFreeEnd_2 (F : Nat) (h : e_H) (a0 : Nat) (a1 : Int32) : Nat → Int32 → Option (Except Int32 Unit)
  | 0, _ => none
  | n + 1, x2_2 =>
    Option.bind (e_fA h a0 8 15) (fun x5 =>
    Option.bind (e_aI h x5 0 261) (fun x11 =>
    if (2 * x11) ≤ x2_2 then
      some (.ok ())
    else
      Option.bind (e_fA h a0 8 15) (fun x17 =>
      Option.bind (e_aI h x17 0 (262 + x2_2)) (fun x25 =>
      if x25 = a1 then
        some (.error 0)
      else
        Option.bind (some (x2_2 + 1)) (fun x32 =>
        lp_X10_isFreeEnd_2 F h a0 a1 n x32)))))
def f_X10_isFreeEnd (F : Nat) (h : e_H) (a0 : Nat) (a1 : Int32) : Option Int32 :=
  e_bE (
      lp_X10_isFreeEnd_2 F h a0 a1 F 0
    : Option (Except Int32 Unit)) (fun _ =>
  Option.bind (e_is h a0 8) (fun _ =>
  Option.bind (f_X10_isAt h a0 a1) (fun x40 =>
  if x40 = 0 then
    some 0
  else
    Option.bind (e_fA h a0 8 15) (fun x47 =>
    Option.bind (f_X10_isPeg h x47 (a1 - a1 / 10 * 10) (a1 / 10)) (fun x58 =>
    if x58 = 0 then
      some 0
    else
      some 1)))))
set_option maxHeartbeats 4000000 in
set_option maxRecDepth 100000 in
theorem ct_X10_isFreeEnd {l : Launch} {D : e_D} {B : Heap} {F : Nat} {d : Nat} {h : e_H} {a0 : Nat} {a1 : Int32} {v : Int32} (hd : 3 ≤ d) (e : f_X10_isFreeEnd F h a0 a1 = some v) : e_Run l D B d mX10_isFreeEnd [.ref a0, .int a1] h (.ok (some (.int v)), h) := by
  refine e_start [some (.ref a0), some (.int a1), none] (by decide) rfl rfl rfl (Nat.le_of_ble_eq_true rfl) (fun K hl0 hD0 hB0 hM hd0 hr => ?_)
  subst hl0 hD0 hB0 hd0
  have ho : (k_M K).1.cls = "PegBandsModel" := by rw [hM]; rfl
  have hT : (k_M K).2.2.2.1 = some (.boolean) := by rw [hM]
  refine (show Sx K cX10_isFreeEnd 0 [some (.ref a0), some (.int a1), none] [] h (f_X10_isFreeEnd F h a0 a1) (fun w => w = v) from ?_) _ e rfl
  clear e
  unfold f_X10_isFreeEnd
  refine S_iconst_ 0 (dc_X10_isFreeEnd 0 rfl) rfl ?_
  refine S_istore_n (L' := [some (.ref a0), some (.int a1), some (.int 0)]) (dc_X10_isFreeEnd 1 rfl) rfl ?_
  refine Sx.regKE0 (pc2 := 38) (L2 := [some (.ref a0), some (.int a1), none]) (st2 := []) (h2 := h) ?_ (fun Q1 hK1 hE1 => ?_)
  · skip
    refine S_aload_n (dc_X10_isFreeEnd 22 rfl) rfl ?_
    refine S_iload_n (dc_X10_isFreeEnd 23 rfl) rfl ?_
    refine Sx.ask (fun _ i40 => ?_)
    refine S_roI (d := k_d K - 1) (e_callV (b := a0) (As := [.int a1]) (rest := []) ok_X10_isAt rfl (Nat.le_of_ble_eq_true rfl) (dc_X10_isFreeEnd 24 rfl) ho q1783 q1785 (show e_cl[8]? = some (RX10, TX10, 51) from rfl) (e_sel.of qs51) (e_is_of i40) rfl (Nat.le_of_ble_eq_true rfl)) (by omega) (fun _ e => ct_X10_isAt (by omega) e) (fun x40 e40 => ?_)
    refine S_if_eq 68 (dc_X10_isFreeEnd 25 rfl) rfl (fun c43 => ?_) (fun c43 => ?_)
    · refine S_iconst_ 0 (dc_X10_isFreeEnd 38 rfl) rfl ?_
      exact S_iret (dc_X10_isFreeEnd 39 rfl) hT rfl (fun q => by cases q; exact hr)
    · refine S_aload_n (dc_X10_isFreeEnd 26 rfl) rfl ?_
      refine S_getA (dc_X10_isFreeEnd 27 rfl) ho fl_X10_13_8_15 (fun _ _ => rfl) (fun x47 e47 => ?_)
      refine S_iload_n (dc_X10_isFreeEnd 28 rfl) rfl ?_
      refine S_bipush_ 10 (dc_X10_isFreeEnd 29 rfl) rfl ?_
      refine S_irem (dc_X10_isFreeEnd 30 rfl) (by decide) ?_
      refine S_iload_n (dc_X10_isFreeEnd 31 rfl) rfl ?_
      refine S_bipush_ 10 (dc_X10_isFreeEnd 32 rfl) rfl ?_
      refine S_idiv (dc_X10_isFreeEnd 33 rfl) (by decide) ?_
      refine S_roI (d := k_d K - 1) (e_callS (As := [.ref x47, .int (a1 - a1 / 10 * 10), .int (a1 / 10)]) (rest := []) ok_X10_isPeg rfl (Nat.le_of_ble_eq_true rfl) (dc_X10_isFreeEnd 34 rfl) ho q1741 q1742 rfl (Nat.le_of_ble_eq_true rfl)) (by omega) (fun _ e => ct_X10_isPeg (by omega) e) (fun x58 e58 => ?_)
      refine S_if_eq 68 (dc_X10_isFreeEnd 35 rfl) rfl (fun c61 => ?_) (fun c61 => ?_)
      · refine S_iconst_ 0 (dc_X10_isFreeEnd 38 rfl) rfl ?_
        exact S_iret (dc_X10_isFreeEnd 39 rfl) hT rfl (fun q => by cases q; exact hr)
      · refine S_iconst_ 1 (dc_X10_isFreeEnd 36 rfl) rfl ?_
        refine S_goto 69 (dc_X10_isFreeEnd 37 rfl) rfl ?_
        exact S_iret (dc_X10_isFreeEnd 39 rfl) hT rfl (fun q => by cases q; exact hr)
  · have hK1 : Sx K cX10_isFreeEnd 38 [some (.ref a0), some (.int a1), none] [] h (some (.ok ())) Q1 := hK1
    have ih1 : ∀ (n : Nat) (x2_2 : Int32), Sx K cX10_isFreeEnd 2 [some (.ref a0), some (.int a1), some (.int x2_2)] [] h (lp_X10_isFreeEnd_2 F h a0 a1 n x2_2) Q1 := by
      intro n
      induction n with
      | zero => intro x2_2; exact Sx.none
      | succ n ih1 =>
        intro x2_2
        rw [lp_X10_isFreeEnd_2.eq_2]
        refine S_iload_n (dc_X10_isFreeEnd 2 rfl) rfl ?_
        refine S_iconst_ 2 (dc_X10_isFreeEnd 3 rfl) rfl ?_
        refine S_aload_n (dc_X10_isFreeEnd 4 rfl) rfl ?_
        refine S_getA (dc_X10_isFreeEnd 5 rfl) ho fl_X10_13_8_15 (fun _ _ => rfl) (fun x5 e5 => ?_)
        refine S_sipush_ 261 (dc_X10_isFreeEnd 6 rfl) rfl ?_
        refine S_iald (dc_X10_isFreeEnd 7 rfl) (fun x11 e11 => ?_)
        refine S_imul (dc_X10_isFreeEnd 8 rfl) ?_
        refine S_icmp_ge 38 (dc_X10_isFreeEnd 9 rfl) rfl (fun c13 => ?_) (fun c13 => ?_)
        · refine Sx.cut [true, true, false] ?_
          exact hK1
        · refine S_aload_n (dc_X10_isFreeEnd 10 rfl) rfl ?_
          refine S_getA (dc_X10_isFreeEnd 11 rfl) ho fl_X10_13_8_15 (fun _ _ => rfl) (fun x17 e17 => ?_)
          refine S_sipush_ 262 (dc_X10_isFreeEnd 12 rfl) rfl ?_
          refine S_iload_n (dc_X10_isFreeEnd 13 rfl) rfl ?_
          refine S_iadd (dc_X10_isFreeEnd 14 rfl) ?_
          refine S_iald (dc_X10_isFreeEnd 15 rfl) (fun x25 e25 => ?_)
          refine S_iload_n (dc_X10_isFreeEnd 16 rfl) rfl ?_
          refine S_icmp_ne 32 (dc_X10_isFreeEnd 17 rfl) rfl (fun c27 => ?_) (fun c27 => ?_)
          · refine S_iincN 1 (L' := fun x32 => [some (.ref a0), some (.int a1), some (.int x32)]) (dc_X10_isFreeEnd 20 rfl) rfl rfl (fun _ => rfl) (fun x32 n32 => ?_)
            refine S_goto 2 (dc_X10_isFreeEnd 21 rfl) rfl ?_
            exact ih1 x32
          · refine S_iconst_ 0 (dc_X10_isFreeEnd 18 rfl) rfl ?_
            refine Sx.err hE1 ?_
            exact S_iret (dc_X10_isFreeEnd 19 rfl) hT rfl (fun q => by cases q; exact hr)
    exact ih1 F 0
