/-! printed by gen/gen.py -/
set_option maxRecDepth 100000
abbrev cX10_meetsOther : ByteArray := prog_18_method_38_code
def yX10_meetsOther : MethodName := ⟨"PegBandsModel", "meetsOther", "([III)Z"⟩
def tb_X10_meetsOther : List (Nat × Instr × Nat) := [(0, .iconst 0, 1), (1, .istore_n 3, 1), (2, .iload_n 3, 1), (3, .aload_n 0, 1), (4, .iload_n 1, 1), (5, .invokestatic 203, 3), (8, .if_icmp .ge 42, 3), (11, .iconst 0, 1), (12, .istore 4, 2), (14, .iload 4, 2), (16, .aload_n 0, 1), (17, .iload_n 2, 1), (18, .invokestatic 203, 3), (21, .if_icmp .ge 23, 3), (24, .aload_n 0, 1), (25, .iload_n 1, 1), (26, .iload_n 3, 1), (27, .iload_n 2, 1), (28, .iload 4, 2), (30, .invokestatic 222, 3), (33, .ifCond .le 5, 3), (36, .iconst 1, 1), (37, .ireturn, 1), (38, .iinc 4 1, 3), (41, .goto (-27), 3), (44, .iinc 3 1, 3), (47, .goto (-45), 3), (50, .iconst 0, 1), (51, .ireturn, 1)]
theorem tk_X10_meetsOther : ∀ q ∈ tb_X10_meetsOther, decode cX10_meetsOther q.1 = .ok q.2 := by decide +kernel
theorem dc_X10_meetsOther (k : Nat) {pc n : Nat} {i : Instr} (h : tb_X10_meetsOther[k]? = some (pc, i, n)) : decode cX10_meetsOther pc = .ok (i, n) := tk_X10_meetsOther (pc, i, n) (List.mem_of_getElem? h)
abbrev mX10_meetsOther : e_M := (yX10_meetsOther, cX10_meetsOther, 5, some (.boolean), [])
theorem ok_X10_meetsOther : e_mok mX10_meetsOther 3 := ⟨q1770, q119, by decide +kernel, fun sig h => by cases h; rfl⟩
def lp_X10_meetsOther_14 (F : Nat) (h : e_H) (a0 : Nat) (a1 : Int32) (a2 : Int32) (x3_2 : Int32) : Nat → Int32 → Option (Except (Except Int32 Unit) Unit)
  | 0, _ => none
  | n + 1, x4_14 =>
    Option.bind (f_X10_cornersOf h a0 a2) (fun x18 =>
    if x18 ≤ x4_14 then
      some (.ok ())
    else
      Option.bind (f_X10_meetSides h a0 a1 x3_2 a2 x4_14) (fun x30 =>
      if x30 ≤ 0 then
        Option.bind (some (x4_14 + 1)) (fun x38 =>
        lp_X10_meetsOther_14 F h a0 a1 a2 x3_2 n x38)
      else
        some (.error (.error 1))))
def lp_X10_meetsOther_2 (F : Nat) (h : e_H) (a0 : Nat) (a1 : Int32) (a2 : Int32) : Nat → Int32 → Option (Except Int32 Unit)
  | 0, _ => none
  | n + 1, x3_2 =>
    Option.bind (f_X10_cornersOf h a0 a1) (fun x5 =>
    if x5 ≤ x3_2 then
      some (.ok ())
    else
      e_bE (
          lp_X10_meetsOther_14 F h a0 a1 a2 x3_2 F 0
        : Option (Except (Except Int32 Unit) Unit)) (fun _ =>
      Option.bind (some (x3_2 + 1)) (fun x44 =>
      lp_X10_meetsOther_2 F h a0 a1 a2 n x44)))
def f_X10_meetsOther (F : Nat) (h : e_H) (a0 : Nat) (a1 : Int32) (a2 : Int32) : Option Int32 :=
  e_bE (
      lp_X10_meetsOther_2 F h a0 a1 a2 F 0
    : Option (Except Int32 Unit)) (fun _ =>
  some 0)
set_option maxHeartbeats 4000000 in
set_option maxRecDepth 100000 in
theorem ct_X10_meetsOther {l : Launch} {D : e_D} {B : Heap} {F : Nat} {d : Nat} {h : e_H} {a0 : Nat} {a1 : Int32} {a2 : Int32} {v : Int32} (hd : 6 ≤ d) (e : f_X10_meetsOther F h a0 a1 a2 = some v) : e_Run l D B d mX10_meetsOther [.ref a0, .int a1, .int a2] h (.ok (some (.int v)), h) := by
  refine e_start [some (.ref a0), some (.int a1), some (.int a2), none, none] (by decide) rfl rfl rfl (Nat.le_of_ble_eq_true rfl) (fun K hl0 hD0 hB0 hM hd0 hr => ?_)
  subst hl0 hD0 hB0 hd0
  have ho : (k_M K).1.cls = "PegBandsModel" := by rw [hM]; rfl
  have hT : (k_M K).2.2.2.1 = some (.boolean) := by rw [hM]
  refine (show Sx K cX10_meetsOther 0 [some (.ref a0), some (.int a1), some (.int a2), none, none] [] h (f_X10_meetsOther F h a0 a1 a2) (fun w => w = v) from ?_) _ e rfl
  clear e
  unfold f_X10_meetsOther
  refine S_iconst_ 0 (dc_X10_meetsOther 0 rfl) rfl ?_
  refine S_istore_n (L' := [some (.ref a0), some (.int a1), some (.int a2), some (.int 0), none]) (dc_X10_meetsOther 1 rfl) rfl ?_
  refine Sx.regKE0 (pc2 := 50) (L2 := [none, none, none, none, none]) (st2 := []) (h2 := h) ?_ (fun Q1 hK1 hE1 => ?_)
  · skip
    refine S_iconst_ 0 (dc_X10_meetsOther 27 rfl) rfl ?_
    exact S_iret (dc_X10_meetsOther 28 rfl) hT rfl (fun q => by cases q; exact hr)
  · have hK1 : Sx K cX10_meetsOther 50 [none, none, none, none, none] [] h (some (.ok ())) Q1 := hK1
    have ih1 : ∀ (n : Nat) (x3_2 : Int32), Sx K cX10_meetsOther 2 [some (.ref a0), some (.int a1), some (.int a2), some (.int x3_2), none] [] h (lp_X10_meetsOther_2 F h a0 a1 a2 n x3_2) Q1 := by
      intro n
      induction n with
      | zero => intro x3_2; exact Sx.none
      | succ n ih1 =>
        intro x3_2
        rw [lp_X10_meetsOther_2.eq_2]
        refine S_iload_n (dc_X10_meetsOther 2 rfl) rfl ?_
        refine S_aload_n (dc_X10_meetsOther 3 rfl) rfl ?_
        refine S_iload_n (dc_X10_meetsOther 4 rfl) rfl ?_
        refine S_roI (d := k_d K - 1) (e_callS (As := [.ref a0, .int a1]) (rest := [.int x3_2]) ok_X10_cornersOf rfl (Nat.le_of_ble_eq_true rfl) (dc_X10_meetsOther 5 rfl) ho q1732 q1733 rfl (Nat.le_of_ble_eq_true rfl)) (by omega) (fun _ e => ct_X10_cornersOf (by omega) e) (fun x5 e5 => ?_)
        refine S_icmp_ge 50 (dc_X10_meetsOther 6 rfl) rfl (fun c8 => ?_) (fun c8 => ?_)
        · refine Sx.cut [false, false, false, false, true] ?_
          exact hK1
        · refine S_iconst_ 0 (dc_X10_meetsOther 7 rfl) rfl ?_
          refine S_istore (L' := [some (.ref a0), some (.int a1), some (.int a2), some (.int x3_2), some (.int 0)]) (dc_X10_meetsOther 8 rfl) rfl ?_
          refine Sx.regKE0 (pc2 := 44) (L2 := [some (.ref a0), some (.int a1), some (.int a2), some (.int x3_2), none]) (st2 := []) (h2 := h) ?_ (fun Q2 hK2 hE2 => ?_)
          · skip
            refine S_iincN 1 (L' := fun x44 => [some (.ref a0), some (.int a1), some (.int a2), some (.int x44), none]) (dc_X10_meetsOther 25 rfl) rfl rfl (fun _ => rfl) (fun x44 n44 => ?_)
            refine S_goto 2 (dc_X10_meetsOther 26 rfl) rfl ?_
            exact ih1 x44
          · have hK2 : Sx K cX10_meetsOther 44 [some (.ref a0), some (.int a1), some (.int a2), some (.int x3_2), none] [] h (some (.ok ())) Q2 := hK2
            have ih2 : ∀ (n : Nat) (x4_14 : Int32), Sx K cX10_meetsOther 14 [some (.ref a0), some (.int a1), some (.int a2), some (.int x3_2), some (.int x4_14)] [] h (lp_X10_meetsOther_14 F h a0 a1 a2 x3_2 n x4_14) Q2 := by
              intro n
              induction n with
              | zero => intro x4_14; exact Sx.none
              | succ n ih2 =>
                intro x4_14
                rw [lp_X10_meetsOther_14.eq_2]
                refine S_iload (dc_X10_meetsOther 9 rfl) rfl ?_
                refine S_aload_n (dc_X10_meetsOther 10 rfl) rfl ?_
                refine S_iload_n (dc_X10_meetsOther 11 rfl) rfl ?_
                refine S_roI (d := k_d K - 1) (e_callS (As := [.ref a0, .int a2]) (rest := [.int x4_14]) ok_X10_cornersOf rfl (Nat.le_of_ble_eq_true rfl) (dc_X10_meetsOther 12 rfl) ho q1732 q1733 rfl (Nat.le_of_ble_eq_true rfl)) (by omega) (fun _ e => ct_X10_cornersOf (by omega) e) (fun x18 e18 => ?_)
                refine S_icmp_ge 44 (dc_X10_meetsOther 13 rfl) rfl (fun c21 => ?_) (fun c21 => ?_)
                · refine Sx.cut [true, true, true, true, false] ?_
                  exact hK2
                · refine S_aload_n (dc_X10_meetsOther 14 rfl) rfl ?_
                  refine S_iload_n (dc_X10_meetsOther 15 rfl) rfl ?_
                  refine S_iload_n (dc_X10_meetsOther 16 rfl) rfl ?_
                  refine S_iload_n (dc_X10_meetsOther 17 rfl) rfl ?_
                  refine S_iload (dc_X10_meetsOther 18 rfl) rfl ?_
                  refine S_roI (d := k_d K - 1) (e_callS (As := [.ref a0, .int a1, .int x3_2, .int a2, .int x4_14]) (rest := []) ok_X10_meetSides rfl (Nat.le_of_ble_eq_true rfl) (dc_X10_meetsOther 19 rfl) ho q1756 q1757 rfl (Nat.le_of_ble_eq_true rfl)) (by omega) (fun _ e => ct_X10_meetSides (by omega) e) (fun x30 e30 => ?_)
                  refine S_if_le 38 (dc_X10_meetsOther 20 rfl) rfl (fun c33 => ?_) (fun c33 => ?_)
                  · refine S_iincN 1 (L' := fun x38 => [some (.ref a0), some (.int a1), some (.int a2), some (.int x3_2), some (.int x38)]) (dc_X10_meetsOther 23 rfl) rfl rfl (fun _ => rfl) (fun x38 n38 => ?_)
                    refine S_goto 14 (dc_X10_meetsOther 24 rfl) rfl ?_
                    exact ih2 x38
                  · refine S_iconst_ 1 (dc_X10_meetsOther 21 rfl) rfl ?_
                    refine Sx.err hE2 ?_
                    refine Sx.err hE1 ?_
                    exact S_iret (dc_X10_meetsOther 22 rfl) hT rfl (fun q => by cases q; exact hr)
            exact ih2 F 0
    exact ih1 F 0
abbrev cX10_wrong : ByteArray := prog_18_method_39_code
def yX10_wrong : MethodName := ⟨"PegBandsModel", "wrong", "([III)I"⟩
def tb_X10_wrong : List (Nat × Instr × Nat) := [(0, .aload_n 0, 1), (1, .iload_n 1, 1), (2, .invokestatic 203, 3), (5, .istore_n 3, 1), (6, .iconst 0, 1), (7, .istore 4, 2), (9, .iload 4, 2), (11, .iload_n 3, 1), (12, .if_icmp .ge 32, 3), (15, .aload_n 0, 1), (16, .aload_n 0, 1), (17, .iload_n 1, 1), (18, .iload 4, 2), (20, .invokestatic 207, 3), (23, .aload_n 0, 1), (24, .iload_n 1, 1), (25, .iload 4, 2), (27, .invokestatic 211, 3), (30, .invokestatic 226, 3), (33, .ifCond .ne 5, 3), (36, .iconst 1, 1), (37, .ireturn, 1), (38, .iinc 4 1, 3), (41, .goto (-32), 3), (44, .iconst 0, 1), (45, .istore 4, 2), (47, .iload 4, 2), (49, .iload_n 3, 1), (50, .if_icmp .ge 61, 3), (53, .iconst 0, 1), (54, .istore 5, 2), (56, .iload 5, 2), (58, .iload 4, 2), (60, .if_icmp .ge 45, 3), (63, .aload_n 0, 1), (64, .iload_n 1, 1), (65, .iload 4, 2), (67, .invokestatic 207, 3), (70, .aload_n 0, 1), (71, .iload_n 1, 1), (72, .iload 5, 2), (74, .invokestatic 207, 3), (77, .if_icmp .ne 22, 3), (80, .aload_n 0, 1), (81, .iload_n 1, 1), (82, .iload 4, 2), (84, .invokestatic 211, 3), (87, .aload_n 0, 1), (88, .iload_n 1, 1), (89, .iload 5, 2), (91, .invokestatic 211, 3), (94, .if_icmp .ne 5, 3), (97, .iconst 2, 1), (98, .ireturn, 1), (99, .iinc 5 1, 3), (102, .goto (-46), 3), (105, .iinc 4 1, 3), (108, .goto (-61), 3), (111, .iconst 0, 1), (112, .istore 4, 2), (114, .iload 4, 2), (116, .iload_n 3, 1), (117, .if_icmp .ge 21, 3), (120, .aload_n 0, 1), (121, .iload_n 1, 1), (122, .iload 4, 2), (124, .invokestatic 229, 3), (127, .ifCond .ne 5, 3), (130, .iconst 3, 1), (131, .ireturn, 1), (132, .iinc 4 1, 3), (135, .goto (-21), 3), (138, .iconst 0, 1), (139, .istore 4, 2), (141, .iload 4, 2), (143, .iload_n 3, 1), (144, .if_icmp .ge 55, 3), (147, .iload 4, 2), (149, .iconst 2, 1), (150, .iadd, 1), (151, .istore 5, 2), (153, .iload 5, 2), (155, .iload_n 3, 1), (156, .if_icmp .ge 37, 3), (159, .iload 4, 2), (161, .ifCond .gt 11, 3), (164, .iload 5, 2), (166, .iload_n 3, 1), (167, .iconst 1, 1), (168, .isub, 1), (169, .if_icmp .ge 18, 3), (172, .aload_n 0, 1), (173, .iload_n 1, 1), (174, .iload 4, 2), (176, .iload_n 1, 1), (177, .iload 5, 2), (179, .invokestatic 222, 3), (182, .ifCond .le 5, 3), (185, .iconst 4, 1), (186, .ireturn, 1), (187, .iinc 5 1, 3), (190, .goto (-37), 3), (193, .iinc 4 1, 3), (196, .goto (-55), 3), (199, .iconst 0, 1), (200, .istore 4, 2), (202, .iload 4, 2), (204, .iload_n 2, 1), (205, .if_icmp .ge 33, 3), (208, .aload_n 0, 1), (209, .iconst 2, 1), (210, .iaload, 1), (211, .ifCond .ne 27, 3), (214, .iload 4, 2), (216, .iload_n 1, 1), (217, .if_icmp .eq 15, 3), (220, .aload_n 0, 1), (221, .iload_n 1, 1), (222, .iload 4, 2), (224, .invokestatic 232, 3), (227, .ifCond .eq 5, 3), (230, .iconst 5, 1), (231, .ireturn, 1), (232, .iinc 4 1, 3), (235, .goto (-33), 3), (238, .iconst 0, 1), (239, .ireturn, 1)]
theorem tk_X10_wrong : ∀ q ∈ tb_X10_wrong, decode cX10_wrong q.1 = .ok q.2 := by decide +kernel
theorem dc_X10_wrong (k : Nat) {pc n : Nat} {i : Instr} (h : tb_X10_wrong[k]? = some (pc, i, n)) : decode cX10_wrong pc = .ok (i, n) := tk_X10_wrong (pc, i, n) (List.mem_of_getElem? h)
abbrev mX10_wrong : e_M := (yX10_wrong, cX10_wrong, 6, some (.int), [])
theorem ok_X10_wrong : e_mok mX10_wrong 3 := ⟨q1731, q119, by decide +kernel, fun sig h => by cases h; rfl⟩
def lp_X10_wrong_9 (F : Nat) (h : e_H) (a0 : Nat) (a1 : Int32) (x2 : Int32) : Nat → Int32 → Option (Except Int32 Unit)
  | 0, _ => none
  | n + 1, x4_9 =>
    if x2 ≤ x4_9 then
      some (.ok ())
    else
      Option.bind (f_X10_xOf h a0 a1 x4_9) (fun x20 =>
      Option.bind (f_X10_yOf h a0 a1 x4_9) (fun x27 =>
      Option.bind (f_X10_isPeg h a0 x20 x27) (fun x30 =>
      if x30 = 0 then
        some (.error 1)
      else
        Option.bind (some (x4_9 + 1)) (fun x38 =>
        lp_X10_wrong_9 F h a0 a1 x2 n x38))))
def lp_X10_wrong_56 (F : Nat) (h : e_H) (a0 : Nat) (a1 : Int32) (x4_47 : Int32) : Nat → Int32 → Option (Except (Except Int32 Unit) Unit)
  | 0, _ => none
  | n + 1, x5_56 =>
    if x4_47 ≤ x5_56 then
      some (.ok ())
    else
      Option.bind (f_X10_xOf h a0 a1 x4_47) (fun x67 =>
      Option.bind (f_X10_xOf h a0 a1 x5_56) (fun x74 =>
      e_bE (
          if x67 = x74 then
            Option.bind (f_X10_yOf h a0 a1 x4_47) (fun x84 =>
            Option.bind (f_X10_yOf h a0 a1 x5_56) (fun x91 =>
            if x84 = x91 then
              some (.error (.error (.error 2)))
            else
              some (.ok ())))
          else
            some (.ok ())
        : Option (Except (Except (Except Int32 Unit) Unit) Unit)) (fun _ =>
      Option.bind (some (x5_56 + 1)) (fun x99 =>
      lp_X10_wrong_56 F h a0 a1 x4_47 n x99))))
def lp_X10_wrong_47 (F : Nat) (h : e_H) (a0 : Nat) (a1 : Int32) (x2 : Int32) : Nat → Int32 → Option (Except Int32 Unit)
  | 0, _ => none
  | n + 1, x4_47 =>
    if x2 ≤ x4_47 then
      some (.ok ())
    else
      e_bE (
          lp_X10_wrong_56 F h a0 a1 x4_47 F 0
        : Option (Except (Except Int32 Unit) Unit)) (fun _ =>
      Option.bind (some (x4_47 + 1)) (fun x105 =>
      lp_X10_wrong_47 F h a0 a1 x2 n x105))
def lp_X10_wrong_114 (F : Nat) (h : e_H) (a0 : Nat) (a1 : Int32) (x2 : Int32) : Nat → Int32 → Option (Except Int32 Unit)
  | 0, _ => none
  | n + 1, x4_114 =>
    if x2 ≤ x4_114 then
      some (.ok ())
    else
      Option.bind (f_X10_turnAt h a0 a1 x4_114) (fun x124 =>
      if x124 = 0 then
        some (.error 3)
      else
        Option.bind (some (x4_114 + 1)) (fun x132 =>
        lp_X10_wrong_114 F h a0 a1 x2 n x132))
def lp_X10_wrong_153 (F : Nat) (h : e_H) (a0 : Nat) (a1 : Int32) (x2 : Int32) (x4_141 : Int32) : Nat → Int32 → Option (Except (Except Int32 Unit) Unit)
  | 0, _ => none
  | n + 1, x5_153 =>
    if x2 ≤ x5_153 then
      some (.ok ())
    else
      e_bE (
          e_bE (
              if 0 < x4_141 then
                some (.ok ())
              else
                if (x2 - 1) ≤ x5_153 then
                  some (.error (.ok ()))
                else
                  some (.ok ())
            : Option (Except (Except (Except (Except Int32 Unit) Unit) Unit) Unit)) (fun _ =>
          Option.bind (f_X10_meetSides h a0 a1 x4_141 a1 x5_153) (fun x179 =>
          if x179 ≤ 0 then
            some (.ok ())
          else
            some (.error (.error (.error 4)))))
        : Option (Except (Except (Except Int32 Unit) Unit) Unit)) (fun _ =>
      Option.bind (some (x5_153 + 1)) (fun x187 =>
      lp_X10_wrong_153 F h a0 a1 x2 x4_141 n x187))
def lp_X10_wrong_141 (F : Nat) (h : e_H) (a0 : Nat) (a1 : Int32) (x2 : Int32) : Nat → Int32 → Option (Except Int32 Unit)
  | 0, _ => none
  | n + 1, x4_141 =>
    if x2 ≤ x4_141 then
      some (.ok ())
    else
      Option.bind (some (x4_141 + 2)) (fun x151 =>
      e_bE (
          lp_X10_wrong_153 F h a0 a1 x2 x4_141 F x151
        : Option (Except (Except Int32 Unit) Unit)) (fun _ =>
      Option.bind (some (x4_141 + 1)) (fun x193 =>
      lp_X10_wrong_141 F h a0 a1 x2 n x193)))
def lp_X10_wrong_202 (F : Nat) (h : e_H) (a0 : Nat) (a1 : Int32) (a2 : Int32) : Nat → Int32 → Option (Except Int32 Unit)
  | 0, _ => none
  | n + 1, x4_202 =>
    if a2 ≤ x4_202 then
      some (.ok ())
    else
      Option.bind (e_aI h a0 0 2) (fun x210 =>
      if x210 = 0 then
        e_bE (
            if x4_202 = a1 then
              some (.ok ())
            else
              Option.bind (f_X10_meetsOther F h a0 a1 x4_202) (fun x224 =>
              if x224 = 0 then
                some (.ok ())
              else
                some (.error (.error 5)))
          : Option (Except (Except Int32 Unit) Unit)) (fun _ =>
        Option.bind (some (x4_202 + 1)) (fun x232 =>
        lp_X10_wrong_202 F h a0 a1 a2 n x232))
      else
        some (.ok ()))
def f_X10_wrong (F : Nat) (h : e_H) (a0 : Nat) (a1 : Int32) (a2 : Int32) : Option Int32 :=
  Option.bind (f_X10_cornersOf h a0 a1) (fun x2 =>
  e_bE (
      lp_X10_wrong_9 F h a0 a1 x2 F 0
    : Option (Except Int32 Unit)) (fun _ =>
  e_bE (
      lp_X10_wrong_47 F h a0 a1 x2 F 0
    : Option (Except Int32 Unit)) (fun _ =>
  e_bE (
      lp_X10_wrong_114 F h a0 a1 x2 F 0
    : Option (Except Int32 Unit)) (fun _ =>
  e_bE (
      lp_X10_wrong_141 F h a0 a1 x2 F 0
    : Option (Except Int32 Unit)) (fun _ =>
  e_bE (
      lp_X10_wrong_202 F h a0 a1 a2 F 0
    : Option (Except Int32 Unit)) (fun _ =>
  some 0))))))
set_option maxHeartbeats 4000000 in
set_option maxRecDepth 100000 in
theorem ct_X10_wrong {l : Launch} {D : e_D} {B : Heap} {F : Nat} {d : Nat} {h : e_H} {a0 : Nat} {a1 : Int32} {a2 : Int32} {v : Int32} (hd : 7 ≤ d) (e : f_X10_wrong F h a0 a1 a2 = some v) : e_Run l D B d mX10_wrong [.ref a0, .int a1, .int a2] h (.ok (some (.int v)), h) := by
  refine e_start [some (.ref a0), some (.int a1), some (.int a2), none, none, none] (by decide) rfl rfl rfl (Nat.le_of_ble_eq_true rfl) (fun K hl0 hD0 hB0 hM hd0 hr => ?_)
  subst hl0 hD0 hB0 hd0
  have ho : (k_M K).1.cls = "PegBandsModel" := by rw [hM]; rfl
  have hT : (k_M K).2.2.2.1 = some (.int) := by rw [hM]
  refine (show Sx K cX10_wrong 0 [some (.ref a0), some (.int a1), some (.int a2), none, none, none] [] h (f_X10_wrong F h a0 a1 a2) (fun w => w = v) from ?_) _ e rfl
  clear e
  unfold f_X10_wrong
  refine S_aload_n (dc_X10_wrong 0 rfl) rfl ?_
  refine S_iload_n (dc_X10_wrong 1 rfl) rfl ?_
  refine S_roI (d := k_d K - 1) (e_callS (As := [.ref a0, .int a1]) (rest := []) ok_X10_cornersOf rfl (Nat.le_of_ble_eq_true rfl) (dc_X10_wrong 2 rfl) ho q1732 q1733 rfl (Nat.le_of_ble_eq_true rfl)) (by omega) (fun _ e => ct_X10_cornersOf (by omega) e) (fun x2 e2 => ?_)
  refine S_istore_n (L' := [some (.ref a0), some (.int a1), some (.int a2), some (.int x2), none, none]) (dc_X10_wrong 3 rfl) rfl ?_
  refine S_iconst_ 0 (dc_X10_wrong 4 rfl) rfl ?_
  refine S_istore (L' := [some (.ref a0), some (.int a1), some (.int a2), some (.int x2), some (.int 0), none]) (dc_X10_wrong 5 rfl) rfl ?_
  refine Sx.regKE0 (pc2 := 44) (L2 := [some (.ref a0), some (.int a1), some (.int a2), some (.int x2), none, none]) (st2 := []) (h2 := h) ?_ (fun Q1 hK1 hE1 => ?_)
  · skip
    refine S_iconst_ 0 (dc_X10_wrong 24 rfl) rfl ?_
    refine S_istore (L' := [some (.ref a0), some (.int a1), some (.int a2), some (.int x2), some (.int 0), none]) (dc_X10_wrong 25 rfl) rfl ?_
    refine Sx.regKE0 (pc2 := 111) (L2 := [some (.ref a0), some (.int a1), some (.int a2), some (.int x2), none, none]) (st2 := []) (h2 := h) ?_ (fun Q2 hK2 hE2 => ?_)
    · skip
      refine S_iconst_ 0 (dc_X10_wrong 58 rfl) rfl ?_
      refine S_istore (L' := [some (.ref a0), some (.int a1), some (.int a2), some (.int x2), some (.int 0), none]) (dc_X10_wrong 59 rfl) rfl ?_
      refine Sx.regKE0 (pc2 := 138) (L2 := [some (.ref a0), some (.int a1), some (.int a2), some (.int x2), none, none]) (st2 := []) (h2 := h) ?_ (fun Q5 hK5 hE5 => ?_)
      · skip
        refine S_iconst_ 0 (dc_X10_wrong 72 rfl) rfl ?_
        refine S_istore (L' := [some (.ref a0), some (.int a1), some (.int a2), some (.int x2), some (.int 0), none]) (dc_X10_wrong 73 rfl) rfl ?_
        refine Sx.regKE0 (pc2 := 199) (L2 := [some (.ref a0), some (.int a1), some (.int a2), none, none, none]) (st2 := []) (h2 := h) ?_ (fun Q6 hK6 hE6 => ?_)
        · skip
          refine S_iconst_ 0 (dc_X10_wrong 104 rfl) rfl ?_
          refine S_istore (L' := [some (.ref a0), some (.int a1), some (.int a2), none, some (.int 0), none]) (dc_X10_wrong 105 rfl) rfl ?_
          refine Sx.regKE0 (pc2 := 238) (L2 := [none, none, none, none, none, none]) (st2 := []) (h2 := h) ?_ (fun Q10 hK10 hE10 => ?_)
          · skip
            refine S_iconst_ 0 (dc_X10_wrong 125 rfl) rfl ?_
            exact S_iret (dc_X10_wrong 126 rfl) hT rfl (fun q => by cases q; exact hr)
          · have hK10 : Sx K cX10_wrong 238 [none, none, none, none, none, none] [] h (some (.ok ())) Q10 := hK10
            have ih10 : ∀ (n : Nat) (x4_202 : Int32), Sx K cX10_wrong 202 [some (.ref a0), some (.int a1), some (.int a2), none, some (.int x4_202), none] [] h (lp_X10_wrong_202 F h a0 a1 a2 n x4_202) Q10 := by
              intro n
              induction n with
              | zero => intro x4_202; exact Sx.none
              | succ n ih10 =>
                intro x4_202
                rw [lp_X10_wrong_202.eq_2]
                refine S_iload (dc_X10_wrong 106 rfl) rfl ?_
                refine S_iload_n (dc_X10_wrong 107 rfl) rfl ?_
                refine S_icmp_ge 238 (dc_X10_wrong 108 rfl) rfl (fun c205 => ?_) (fun c205 => ?_)
                · refine Sx.cut [false, false, false, true, false, true] ?_
                  exact hK10
                · refine S_aload_n (dc_X10_wrong 109 rfl) rfl ?_
                  refine S_iconst_ 2 (dc_X10_wrong 110 rfl) rfl ?_
                  refine S_iald (dc_X10_wrong 111 rfl) (fun x210 e210 => ?_)
                  refine S_if_ne 238 (dc_X10_wrong 112 rfl) rfl (fun c211 => ?_) (fun c211 => ?_)
                  · refine Sx.cut [false, false, false, true, false, true] ?_
                    exact hK10
                  · refine S_iload (dc_X10_wrong 113 rfl) rfl ?_
                    refine S_iload_n (dc_X10_wrong 114 rfl) rfl ?_
                    refine Sx.regKE0 (pc2 := 232) (L2 := [some (.ref a0), some (.int a1), some (.int a2), none, some (.int x4_202), none]) (st2 := []) (h2 := h) ?_ (fun Q11 hK11 hE11 => ?_)
                    · skip
                      refine S_iincN 1 (L' := fun x232 => [some (.ref a0), some (.int a1), some (.int a2), none, some (.int x232), none]) (dc_X10_wrong 123 rfl) rfl rfl (fun _ => rfl) (fun x232 n232 => ?_)
                      refine S_goto 202 (dc_X10_wrong 124 rfl) rfl ?_
                      exact ih10 x232
                    · have hK11 : Sx K cX10_wrong 232 [some (.ref a0), some (.int a1), some (.int a2), none, some (.int x4_202), none] [] h (some (.ok ())) Q11 := hK11
                      refine S_icmp_eq 232 (dc_X10_wrong 115 rfl) rfl (fun c217 => ?_) (fun c217 => ?_)
                      · exact hK11
                      · refine S_aload_n (dc_X10_wrong 116 rfl) rfl ?_
                        refine S_iload_n (dc_X10_wrong 117 rfl) rfl ?_
                        refine S_iload (dc_X10_wrong 118 rfl) rfl ?_
                        refine S_roI (d := k_d K - 1) (e_callS (As := [.ref a0, .int a1, .int x4_202]) (rest := []) ok_X10_meetsOther rfl (Nat.le_of_ble_eq_true rfl) (dc_X10_wrong 119 rfl) ho q1768 q1769 rfl (Nat.le_of_ble_eq_true rfl)) (by omega) (fun _ e => ct_X10_meetsOther (by omega) e) (fun x224 e224 => ?_)
                        refine S_if_eq 232 (dc_X10_wrong 120 rfl) rfl (fun c227 => ?_) (fun c227 => ?_)
                        · exact hK11
                        · refine S_iconst_ 5 (dc_X10_wrong 121 rfl) rfl ?_
                          refine Sx.err hE11 ?_
                          refine Sx.err hE10 ?_
                          exact S_iret (dc_X10_wrong 122 rfl) hT rfl (fun q => by cases q; exact hr)
            exact ih10 F 0
        · have hK6 : Sx K cX10_wrong 199 [some (.ref a0), some (.int a1), some (.int a2), none, none, none] [] h (some (.ok ())) Q6 := hK6
          have ih6 : ∀ (n : Nat) (x4_141 : Int32), Sx K cX10_wrong 141 [some (.ref a0), some (.int a1), some (.int a2), some (.int x2), some (.int x4_141), none] [] h (lp_X10_wrong_141 F h a0 a1 x2 n x4_141) Q6 := by
            intro n
            induction n with
            | zero => intro x4_141; exact Sx.none
            | succ n ih6 =>
              intro x4_141
              rw [lp_X10_wrong_141.eq_2]
              refine S_iload (dc_X10_wrong 74 rfl) rfl ?_
              refine S_iload_n (dc_X10_wrong 75 rfl) rfl ?_
              refine S_icmp_ge 199 (dc_X10_wrong 76 rfl) rfl (fun c144 => ?_) (fun c144 => ?_)
              · refine Sx.cut [true, true, true, false, false, true] ?_
                exact hK6
              · refine S_iload (dc_X10_wrong 77 rfl) rfl ?_
                refine S_iconst_ 2 (dc_X10_wrong 78 rfl) rfl ?_
                refine S_iadd (dc_X10_wrong 79 rfl) ?_
                refine Sx.nameI (fun x151 n151 => ?_)
                refine S_istore (L' := [some (.ref a0), some (.int a1), some (.int a2), some (.int x2), some (.int x4_141), some (.int x151)]) (dc_X10_wrong 80 rfl) rfl ?_
                refine Sx.regKE0 (pc2 := 193) (L2 := [some (.ref a0), some (.int a1), some (.int a2), some (.int x2), some (.int x4_141), none]) (st2 := []) (h2 := h) ?_ (fun Q7 hK7 hE7 => ?_)
                · skip
                  refine S_iincN 1 (L' := fun x193 => [some (.ref a0), some (.int a1), some (.int a2), some (.int x2), some (.int x193), none]) (dc_X10_wrong 102 rfl) rfl rfl (fun _ => rfl) (fun x193 n193 => ?_)
                  refine S_goto 141 (dc_X10_wrong 103 rfl) rfl ?_
                  exact ih6 x193
                · have hK7 : Sx K cX10_wrong 193 [some (.ref a0), some (.int a1), some (.int a2), some (.int x2), some (.int x4_141), none] [] h (some (.ok ())) Q7 := hK7
                  have ih7 : ∀ (n : Nat) (x5_153 : Int32), Sx K cX10_wrong 153 [some (.ref a0), some (.int a1), some (.int a2), some (.int x2), some (.int x4_141), some (.int x5_153)] [] h (lp_X10_wrong_153 F h a0 a1 x2 x4_141 n x5_153) Q7 := by
                    intro n
                    induction n with
                    | zero => intro x5_153; exact Sx.none
                    | succ n ih7 =>
                      intro x5_153
                      rw [lp_X10_wrong_153.eq_2]
                      refine S_iload (dc_X10_wrong 81 rfl) rfl ?_
                      refine S_iload_n (dc_X10_wrong 82 rfl) rfl ?_
                      refine S_icmp_ge 193 (dc_X10_wrong 83 rfl) rfl (fun c156 => ?_) (fun c156 => ?_)
                      · refine Sx.cut [true, true, true, true, true, false] ?_
                        exact hK7
                      · refine S_iload (dc_X10_wrong 84 rfl) rfl ?_
                        refine Sx.regKE0 (pc2 := 187) (L2 := [some (.ref a0), some (.int a1), some (.int a2), some (.int x2), some (.int x4_141), some (.int x5_153)]) (st2 := []) (h2 := h) ?_ (fun Q8 hK8 hE8 => ?_)
                        · skip
                          refine S_iincN 1 (L' := fun x187 => [some (.ref a0), some (.int a1), some (.int a2), some (.int x2), some (.int x4_141), some (.int x187)]) (dc_X10_wrong 100 rfl) rfl rfl (fun _ => rfl) (fun x187 n187 => ?_)
                          refine S_goto 153 (dc_X10_wrong 101 rfl) rfl ?_
                          exact ih7 x187
                        · have hK8 : Sx K cX10_wrong 187 [some (.ref a0), some (.int a1), some (.int a2), some (.int x2), some (.int x4_141), some (.int x5_153)] [] h (some (.ok ())) Q8 := hK8
                          refine Sx.regKE0 (pc2 := 172) (L2 := [some (.ref a0), some (.int a1), some (.int a2), some (.int x2), some (.int x4_141), some (.int x5_153)]) (st2 := []) (h2 := h) ?_ (fun Q9 hK9 hE9 => ?_)
                          · skip
                            refine S_aload_n (dc_X10_wrong 91 rfl) rfl ?_
                            refine S_iload_n (dc_X10_wrong 92 rfl) rfl ?_
                            refine S_iload (dc_X10_wrong 93 rfl) rfl ?_
                            refine S_iload_n (dc_X10_wrong 94 rfl) rfl ?_
                            refine S_iload (dc_X10_wrong 95 rfl) rfl ?_
                            refine S_roI (d := k_d K - 1) (e_callS (As := [.ref a0, .int a1, .int x4_141, .int a1, .int x5_153]) (rest := []) ok_X10_meetSides rfl (Nat.le_of_ble_eq_true rfl) (dc_X10_wrong 96 rfl) ho q1756 q1757 rfl (Nat.le_of_ble_eq_true rfl)) (by omega) (fun _ e => ct_X10_meetSides (by omega) e) (fun x179 e179 => ?_)
                            refine S_if_le 187 (dc_X10_wrong 97 rfl) rfl (fun c182 => ?_) (fun c182 => ?_)
                            · exact hK8
                            · refine S_iconst_ 4 (dc_X10_wrong 98 rfl) rfl ?_
                              refine Sx.err hE8 ?_
                              refine Sx.err hE7 ?_
                              refine Sx.err hE6 ?_
                              exact S_iret (dc_X10_wrong 99 rfl) hT rfl (fun q => by cases q; exact hr)
                          · have hK9 : Sx K cX10_wrong 172 [some (.ref a0), some (.int a1), some (.int a2), some (.int x2), some (.int x4_141), some (.int x5_153)] [] h (some (.ok ())) Q9 := hK9
                            refine S_if_gt 172 (dc_X10_wrong 85 rfl) rfl (fun c161 => ?_) (fun c161 => ?_)
                            · exact hK9
                            · refine S_iload (dc_X10_wrong 86 rfl) rfl ?_
                              refine S_iload_n (dc_X10_wrong 87 rfl) rfl ?_
                              refine S_iconst_ 1 (dc_X10_wrong 88 rfl) rfl ?_
                              refine S_isub (dc_X10_wrong 89 rfl) ?_
                              refine S_icmp_ge 187 (dc_X10_wrong 90 rfl) rfl (fun c169 => ?_) (fun c169 => ?_)
                              · refine Sx.err hE9 ?_
                                exact hK8
                              · exact hK9
                  exact ih7 F x151
          exact ih6 F 0
      · have hK5 : Sx K cX10_wrong 138 [some (.ref a0), some (.int a1), some (.int a2), some (.int x2), none, none] [] h (some (.ok ())) Q5 := hK5
        have ih5 : ∀ (n : Nat) (x4_114 : Int32), Sx K cX10_wrong 114 [some (.ref a0), some (.int a1), some (.int a2), some (.int x2), some (.int x4_114), none] [] h (lp_X10_wrong_114 F h a0 a1 x2 n x4_114) Q5 := by
          intro n
          induction n with
          | zero => intro x4_114; exact Sx.none
          | succ n ih5 =>
            intro x4_114
            rw [lp_X10_wrong_114.eq_2]
            refine S_iload (dc_X10_wrong 60 rfl) rfl ?_
            refine S_iload_n (dc_X10_wrong 61 rfl) rfl ?_
            refine S_icmp_ge 138 (dc_X10_wrong 62 rfl) rfl (fun c117 => ?_) (fun c117 => ?_)
            · refine Sx.cut [true, true, true, true, false, true] ?_
              exact hK5
            · refine S_aload_n (dc_X10_wrong 63 rfl) rfl ?_
              refine S_iload_n (dc_X10_wrong 64 rfl) rfl ?_
              refine S_iload (dc_X10_wrong 65 rfl) rfl ?_
              refine S_roI (d := k_d K - 1) (e_callS (As := [.ref a0, .int a1, .int x4_114]) (rest := []) ok_X10_turnAt rfl (Nat.le_of_ble_eq_true rfl) (dc_X10_wrong 66 rfl) ho q1747 q1748 rfl (Nat.le_of_ble_eq_true rfl)) (by omega) (fun _ e => ct_X10_turnAt (by omega) e) (fun x124 e124 => ?_)
              refine S_if_ne 132 (dc_X10_wrong 67 rfl) rfl (fun c127 => ?_) (fun c127 => ?_)
              · refine S_iincN 1 (L' := fun x132 => [some (.ref a0), some (.int a1), some (.int a2), some (.int x2), some (.int x132), none]) (dc_X10_wrong 70 rfl) rfl rfl (fun _ => rfl) (fun x132 n132 => ?_)
                refine S_goto 114 (dc_X10_wrong 71 rfl) rfl ?_
                exact ih5 x132
              · refine S_iconst_ 3 (dc_X10_wrong 68 rfl) rfl ?_
                refine Sx.err hE5 ?_
                exact S_iret (dc_X10_wrong 69 rfl) hT rfl (fun q => by cases q; exact hr)
        exact ih5 F 0
    · have hK2 : Sx K cX10_wrong 111 [some (.ref a0), some (.int a1), some (.int a2), some (.int x2), none, none] [] h (some (.ok ())) Q2 := hK2
      have ih2 : ∀ (n : Nat) (x4_47 : Int32), Sx K cX10_wrong 47 [some (.ref a0), some (.int a1), some (.int a2), some (.int x2), some (.int x4_47), none] [] h (lp_X10_wrong_47 F h a0 a1 x2 n x4_47) Q2 := by
        intro n
        induction n with
        | zero => intro x4_47; exact Sx.none
        | succ n ih2 =>
          intro x4_47
          rw [lp_X10_wrong_47.eq_2]
          refine S_iload (dc_X10_wrong 26 rfl) rfl ?_
          refine S_iload_n (dc_X10_wrong 27 rfl) rfl ?_
          refine S_icmp_ge 111 (dc_X10_wrong 28 rfl) rfl (fun c50 => ?_) (fun c50 => ?_)
          · refine Sx.cut [true, true, true, true, false, true] ?_
            exact hK2
          · refine S_iconst_ 0 (dc_X10_wrong 29 rfl) rfl ?_
            refine S_istore (L' := [some (.ref a0), some (.int a1), some (.int a2), some (.int x2), some (.int x4_47), some (.int 0)]) (dc_X10_wrong 30 rfl) rfl ?_
            refine Sx.regKE0 (pc2 := 105) (L2 := [some (.ref a0), some (.int a1), some (.int a2), some (.int x2), some (.int x4_47), none]) (st2 := []) (h2 := h) ?_ (fun Q3 hK3 hE3 => ?_)
            · skip
              refine S_iincN 1 (L' := fun x105 => [some (.ref a0), some (.int a1), some (.int a2), some (.int x2), some (.int x105), none]) (dc_X10_wrong 56 rfl) rfl rfl (fun _ => rfl) (fun x105 n105 => ?_)
              refine S_goto 47 (dc_X10_wrong 57 rfl) rfl ?_
              exact ih2 x105
            · have hK3 : Sx K cX10_wrong 105 [some (.ref a0), some (.int a1), some (.int a2), some (.int x2), some (.int x4_47), none] [] h (some (.ok ())) Q3 := hK3
              have ih3 : ∀ (n : Nat) (x5_56 : Int32), Sx K cX10_wrong 56 [some (.ref a0), some (.int a1), some (.int a2), some (.int x2), some (.int x4_47), some (.int x5_56)] [] h (lp_X10_wrong_56 F h a0 a1 x4_47 n x5_56) Q3 := by
                intro n
                induction n with
                | zero => intro x5_56; exact Sx.none
                | succ n ih3 =>
                  intro x5_56
                  rw [lp_X10_wrong_56.eq_2]
                  refine S_iload (dc_X10_wrong 31 rfl) rfl ?_
                  refine S_iload (dc_X10_wrong 32 rfl) rfl ?_
                  refine S_icmp_ge 105 (dc_X10_wrong 33 rfl) rfl (fun c60 => ?_) (fun c60 => ?_)
                  · refine Sx.cut [true, true, true, true, true, false] ?_
                    exact hK3
                  · refine S_aload_n (dc_X10_wrong 34 rfl) rfl ?_
                    refine S_iload_n (dc_X10_wrong 35 rfl) rfl ?_
                    refine S_iload (dc_X10_wrong 36 rfl) rfl ?_
                    refine S_roI (d := k_d K - 1) (e_callS (As := [.ref a0, .int a1, .int x4_47]) (rest := []) ok_X10_xOf rfl (Nat.le_of_ble_eq_true rfl) (dc_X10_wrong 37 rfl) ho q1735 q1736 rfl (Nat.le_of_ble_eq_true rfl)) (by omega) (fun _ e => ct_X10_xOf (by omega) e) (fun x67 e67 => ?_)
                    refine S_aload_n (dc_X10_wrong 38 rfl) rfl ?_
                    refine S_iload_n (dc_X10_wrong 39 rfl) rfl ?_
                    refine S_iload (dc_X10_wrong 40 rfl) rfl ?_
                    refine S_roI (d := k_d K - 1) (e_callS (As := [.ref a0, .int a1, .int x5_56]) (rest := [.int x67]) ok_X10_xOf rfl (Nat.le_of_ble_eq_true rfl) (dc_X10_wrong 41 rfl) ho q1735 q1736 rfl (Nat.le_of_ble_eq_true rfl)) (by omega) (fun _ e => ct_X10_xOf (by omega) e) (fun x74 e74 => ?_)
                    refine Sx.regKE0 (pc2 := 99) (L2 := [some (.ref a0), some (.int a1), some (.int a2), some (.int x2), some (.int x4_47), some (.int x5_56)]) (st2 := []) (h2 := h) ?_ (fun Q4 hK4 hE4 => ?_)
                    · skip
                      refine S_iincN 1 (L' := fun x99 => [some (.ref a0), some (.int a1), some (.int a2), some (.int x2), some (.int x4_47), some (.int x99)]) (dc_X10_wrong 54 rfl) rfl rfl (fun _ => rfl) (fun x99 n99 => ?_)
                      refine S_goto 56 (dc_X10_wrong 55 rfl) rfl ?_
                      exact ih3 x99
                    · have hK4 : Sx K cX10_wrong 99 [some (.ref a0), some (.int a1), some (.int a2), some (.int x2), some (.int x4_47), some (.int x5_56)] [] h (some (.ok ())) Q4 := hK4
                      refine S_icmp_ne 99 (dc_X10_wrong 42 rfl) rfl (fun c77 => ?_) (fun c77 => ?_)
                      · exact hK4
                      · refine S_aload_n (dc_X10_wrong 43 rfl) rfl ?_
                        refine S_iload_n (dc_X10_wrong 44 rfl) rfl ?_
                        refine S_iload (dc_X10_wrong 45 rfl) rfl ?_
                        refine S_roI (d := k_d K - 1) (e_callS (As := [.ref a0, .int a1, .int x4_47]) (rest := []) ok_X10_yOf rfl (Nat.le_of_ble_eq_true rfl) (dc_X10_wrong 46 rfl) ho q1738 q1739 rfl (Nat.le_of_ble_eq_true rfl)) (by omega) (fun _ e => ct_X10_yOf (by omega) e) (fun x84 e84 => ?_)
                        refine S_aload_n (dc_X10_wrong 47 rfl) rfl ?_
                        refine S_iload_n (dc_X10_wrong 48 rfl) rfl ?_
                        refine S_iload (dc_X10_wrong 49 rfl) rfl ?_
                        refine S_roI (d := k_d K - 1) (e_callS (As := [.ref a0, .int a1, .int x5_56]) (rest := [.int x84]) ok_X10_yOf rfl (Nat.le_of_ble_eq_true rfl) (dc_X10_wrong 50 rfl) ho q1738 q1739 rfl (Nat.le_of_ble_eq_true rfl)) (by omega) (fun _ e => ct_X10_yOf (by omega) e) (fun x91 e91 => ?_)
                        refine S_icmp_ne 99 (dc_X10_wrong 51 rfl) rfl (fun c94 => ?_) (fun c94 => ?_)
                        · exact hK4
                        · refine S_iconst_ 2 (dc_X10_wrong 52 rfl) rfl ?_
                          refine Sx.err hE4 ?_
                          refine Sx.err hE3 ?_
                          refine Sx.err hE2 ?_
                          exact S_iret (dc_X10_wrong 53 rfl) hT rfl (fun q => by cases q; exact hr)
              exact ih3 F 0
      exact ih2 F 0
  · have hK1 : Sx K cX10_wrong 44 [some (.ref a0), some (.int a1), some (.int a2), some (.int x2), none, none] [] h (some (.ok ())) Q1 := hK1
    have ih1 : ∀ (n : Nat) (x4_9 : Int32), Sx K cX10_wrong 9 [some (.ref a0), some (.int a1), some (.int a2), some (.int x2), some (.int x4_9), none] [] h (lp_X10_wrong_9 F h a0 a1 x2 n x4_9) Q1 := by
      intro n
      induction n with
      | zero => intro x4_9; exact Sx.none
      | succ n ih1 =>
        intro x4_9
        rw [lp_X10_wrong_9.eq_2]
        refine S_iload (dc_X10_wrong 6 rfl) rfl ?_
        refine S_iload_n (dc_X10_wrong 7 rfl) rfl ?_
        refine S_icmp_ge 44 (dc_X10_wrong 8 rfl) rfl (fun c12 => ?_) (fun c12 => ?_)
        · refine Sx.cut [true, true, true, true, false, true] ?_
          exact hK1
        · refine S_aload_n (dc_X10_wrong 9 rfl) rfl ?_
          refine S_aload_n (dc_X10_wrong 10 rfl) rfl ?_
          refine S_iload_n (dc_X10_wrong 11 rfl) rfl ?_
          refine S_iload (dc_X10_wrong 12 rfl) rfl ?_
          refine S_roI (d := k_d K - 1) (e_callS (As := [.ref a0, .int a1, .int x4_9]) (rest := [.ref a0]) ok_X10_xOf rfl (Nat.le_of_ble_eq_true rfl) (dc_X10_wrong 13 rfl) ho q1735 q1736 rfl (Nat.le_of_ble_eq_true rfl)) (by omega) (fun _ e => ct_X10_xOf (by omega) e) (fun x20 e20 => ?_)
          refine S_aload_n (dc_X10_wrong 14 rfl) rfl ?_
          refine S_iload_n (dc_X10_wrong 15 rfl) rfl ?_
          refine S_iload (dc_X10_wrong 16 rfl) rfl ?_
          refine S_roI (d := k_d K - 1) (e_callS (As := [.ref a0, .int a1, .int x4_9]) (rest := [.int x20, .ref a0]) ok_X10_yOf rfl (Nat.le_of_ble_eq_true rfl) (dc_X10_wrong 17 rfl) ho q1738 q1739 rfl (Nat.le_of_ble_eq_true rfl)) (by omega) (fun _ e => ct_X10_yOf (by omega) e) (fun x27 e27 => ?_)
          refine S_roI (d := k_d K - 1) (e_callS (As := [.ref a0, .int x20, .int x27]) (rest := []) ok_X10_isPeg rfl (Nat.le_of_ble_eq_true rfl) (dc_X10_wrong 18 rfl) ho q1741 q1742 rfl (Nat.le_of_ble_eq_true rfl)) (by omega) (fun _ e => ct_X10_isPeg (by omega) e) (fun x30 e30 => ?_)
          refine S_if_ne 38 (dc_X10_wrong 19 rfl) rfl (fun c33 => ?_) (fun c33 => ?_)
          · refine S_iincN 1 (L' := fun x38 => [some (.ref a0), some (.int a1), some (.int a2), some (.int x2), some (.int x38), none]) (dc_X10_wrong 22 rfl) rfl rfl (fun _ => rfl) (fun x38 n38 => ?_)
            refine S_goto 9 (dc_X10_wrong 23 rfl) rfl ?_
            exact ih1 x38
          · refine S_iconst_ 1 (dc_X10_wrong 20 rfl) rfl ?_
            refine Sx.err hE1 ?_
            exact S_iret (dc_X10_wrong 21 rfl) hT rfl (fun q => by cases q; exact hr)
    exact ih1 F 0
abbrev cX10_readBand : ByteArray := prog_18_method_43_code
def yX10_readBand : MethodName := ⟨"PegBandsModel", "readBand", "()Z"⟩
def tb_X10_readBand : List (Nat × Instr × Nat) := [(0, .aload_n 0, 1), (1, .getfield 16, 3), (4, .iconst 4, 1), (5, .iaload, 1), (6, .istore_n 1, 1), (7, .iload_n 1, 1), (8, .bipush 8, 2), (10, .if_icmp .ne 9, 3), (13, .aload_n 0, 1), (14, .iconst 4, 1), (15, .invokevirtual 165, 3), (18, .ireturn, 1), (19, .aload_n 0, 1), (20, .invokevirtual 179, 3), (23, .aload_n 0, 1), (24, .invokevirtual 238, 3), (27, .ifCond .ne 9, 3), (30, .aload_n 0, 1), (31, .iconst 1, 1), (32, .invokevirtual 165, 3), (35, .ireturn, 1), (36, .aload_n 0, 1), (37, .getfield 32, 3), (40, .iload_n 1, 1), (41, .aload_n 0, 1), (42, .getfield 133, 3), (45, .invokestatic 242, 3), (48, .iconst (-1), 1), (49, .if_icmp .eq 9, 3), (52, .aload_n 0, 1), (53, .iconst 3, 1), (54, .invokevirtual 165, 3), (57, .ireturn, 1), (58, .aload_n 0, 1), (59, .getfield 32, 3), (62, .iload_n 1, 1), (63, .aload_n 0, 1), (64, .getfield 133, 3), (67, .lastore, 1), (68, .aload_n 0, 1), (69, .invokevirtual 179, 3), (72, .bipush 105, 2), (74, .bipush 17, 2), (76, .iload_n 1, 1), (77, .imul, 1), (78, .iadd, 1), (79, .istore_n 2, 1), (80, .aload_n 0, 1), (81, .getfield 16, 3), (84, .iload_n 2, 1), (85, .iconst 0, 1), (86, .iastore, 1), (87, .aload_n 0, 1), (88, .getfield 16, 3), (91, .iload_n 2, 1), (92, .iaload, 1), (93, .iconst 3, 1), (94, .if_icmp .lt 11, 3), (97, .aload_n 0, 1), (98, .getfield 120, 3), (101, .iconst 3, 1), (102, .if_icmp .ne 108, 3), (105, .aload_n 0, 1), (106, .iconst 0, 1), (107, .aload_n 0, 1), (108, .getfield 16, 3), (111, .iconst 0, 1), (112, .iaload, 1), (113, .iconst 1, 1), (114, .isub, 1), (115, .invokevirtual 175, 3), (118, .ifCond .ne 5, 3), (121, .iconst 0, 1), (122, .ireturn, 1), (123, .aload_n 0, 1), (124, .getfield 16, 3), (127, .iload_n 2, 1), (128, .iaload, 1), (129, .bipush 8, 2), (131, .if_icmp .ne 9, 3), (134, .aload_n 0, 1), (135, .iconst 4, 1), (136, .invokevirtual 165, 3), (139, .ireturn, 1), (140, .iload_n 2, 1), (141, .iconst 1, 1), (142, .iadd, 1), (143, .iconst 2, 1), (144, .aload_n 0, 1), (145, .getfield 16, 3), (148, .iload_n 2, 1), (149, .iaload, 1), (150, .imul, 1), (151, .iadd, 1), (152, .istore_n 3, 1), (153, .aload_n 0, 1), (154, .getfield 16, 3), (157, .iload_n 3, 1), (158, .aload_n 0, 1), (159, .getfield 172, 3), (162, .iastore, 1), (163, .aload_n 0, 1), (164, .invokevirtual 179, 3), (167, .aload_n 0, 1), (168, .iconst 0, 1), (169, .aload_n 0, 1), (170, .getfield 16, 3), (173, .iconst 1, 1), (174, .iaload, 1), (175, .iconst 1, 1), (176, .isub, 1), (177, .invokevirtual 235, 3), (180, .ifCond .ne 5, 3), (183, .iconst 0, 1), (184, .ireturn, 1), (185, .aload_n 0, 1), (186, .getfield 16, 3), (189, .iload_n 3, 1), (190, .iconst 1, 1), (191, .iadd, 1), (192, .aload_n 0, 1), (193, .getfield 172, 3), (196, .iastore, 1), (197, .aload_n 0, 1), (198, .getfield 16, 3), (201, .iload_n 2, 1), (202, .dup2, 1), (203, .iaload, 1), (204, .iconst 1, 1), (205, .iadd, 1), (206, .iastore, 1), (207, .goto (-120), 3), (210, .aload_n 0, 1), (211, .bipush 59, 2), (213, .invokevirtual 182, 3), (216, .ifCond .ne 9, 3), (219, .aload_n 0, 1), (220, .iconst 1, 1), (221, .invokevirtual 165, 3), (224, .ireturn, 1), (225, .aload_n 0, 1), (226, .getfield 16, 3), (229, .iload_n 1, 1), (230, .iload_n 1, 1), (231, .invokestatic 246, 3), (234, .istore_n 3, 1), (235, .iload_n 3, 1), (236, .ifCond .le 14, 3), (239, .aload_n 0, 1), (240, .iload_n 3, 1), (241, .putfield 249, 3), (244, .aload_n 0, 1), (245, .iconst 5, 1), (246, .invokevirtual 165, 3), (249, .ireturn, 1), (250, .aload_n 0, 1), (251, .getfield 16, 3), (254, .iconst 4, 1), (255, .dup2, 1), (256, .iaload, 1), (257, .iconst 1, 1), (258, .iadd, 1), (259, .iastore, 1), (260, .iconst 1, 1), (261, .ireturn, 1)]
theorem tk_X10_readBand : ∀ q ∈ tb_X10_readBand, decode cX10_readBand q.1 = .ok q.2 := by decide +kernel
theorem dc_X10_readBand (k : Nat) {pc n : Nat} {i : Instr} (h : tb_X10_readBand[k]? = some (pc, i, n)) : decode cX10_readBand pc = .ok (i, n) := tk_X10_readBand (pc, i, n) (List.mem_of_getElem? h)
abbrev mX10_readBand : e_M := (yX10_readBand, cX10_readBand, 4, some (.boolean), [])
theorem ok_X10_readBand : e_mok mX10_readBand 0 := ⟨q1721, q119, by decide +kernel, fun sig h => by cases h; rfl⟩
theorem fl_X10_249_8_12 : e_FL "PegBandsModel" 249 8 12 := ⟨_, rfl, by decide, Or.inl q1483⟩
def lp_X10_readBand_87 (F : Nat) (a0 : Nat) (x79 : Int32) : Nat → e_H → Option (Except (Int32 × e_H) e_H)
  | 0, _ => none
  | n + 1, h_87 =>
    Option.bind (e_fA h_87 a0 8 16) (fun x88 =>
    Option.bind (e_aI h_87 x88 0 x79) (fun x92 =>
    e_bE (
        if x92 < 3 then
          some (.ok ())
        else
          Option.bind (e_fI h_87 a0 8 7) (fun x98 =>
          if x98 = 3 then
            some (.ok ())
          else
            some (.error (.ok h_87)))
      : Option (Except (Except (Int32 × e_H) e_H) Unit)) (fun _ =>
    Option.bind (e_fA h_87 a0 8 16) (fun x108 =>
    Option.bind (e_aI h_87 x108 0 0) (fun x112 =>
    e_b2 (f_X10_isNumber h_87 a0 0 (x112 - 1)) (fun x115 h115 =>
    if x115 = 0 then
      some (.error (0, h115))
    else
      Option.bind (e_fA h115 a0 8 16) (fun x124 =>
      Option.bind (e_aI h115 x124 0 x79) (fun x128 =>
      if x128 = 8 then
        e_b2 (f_X10_bad h115 a0 4) (fun x136 h136 =>
        if x136 = 0 ∨ x136 = 1 then some (.error (x136, h136)) else none)
      else
        Option.bind (e_fA h115 a0 8 16) (fun x145 =>
        Option.bind (e_aI h115 x145 0 x79) (fun x149 =>
        Option.bind (some ((x79 + 1) + (2 * x149))) (fun x152 =>
        Option.bind (e_fA h115 a0 8 16) (fun x154 =>
        Option.bind (e_fI h115 a0 8 14) (fun x159 =>
        Option.bind (e_wI h115 x154 0 x152 x159) (fun h162 =>
        Option.bind (e_is h162 a0 8) (fun _ =>
        Option.bind (f_X10_go F h162 a0) (fun h164 =>
        Option.bind (e_fA h164 a0 8 16) (fun x170 =>
        Option.bind (e_aI h164 x170 0 1) (fun x174 =>
        e_b2 (f_X10_readNumber F h164 a0 0 (x174 - 1)) (fun x177 h177 =>
        if x177 = 0 then
          some (.error (0, h177))
        else
          Option.bind (e_fA h177 a0 8 16) (fun x186 =>
          Option.bind (e_fI h177 a0 8 14) (fun x193 =>
          Option.bind (e_wI h177 x186 0 (x152 + 1) x193) (fun h196 =>
          Option.bind (e_fA h196 a0 8 16) (fun x198 =>
          Option.bind (e_aI h196 x198 0 x79) (fun x203 =>
          Option.bind (e_wI h196 x198 0 x79 (x203 + 1)) (fun h206 =>
          lp_X10_readBand_87 F a0 x79 n h206)))))))))))))))))))))))))
def f_X10_readBand (F : Nat) (h : e_H) (a0 : Nat) : Option (Int32 × e_H) :=
  Option.bind (e_fA h a0 8 16) (fun x1 =>
  Option.bind (e_aI h x1 0 4) (fun x5 =>
  if x5 = 8 then
    e_b2 (f_X10_bad h a0 4) (fun x15 h15 =>
    if x15 = 0 ∨ x15 = 1 then some (x15, h15) else none)
  else
    Option.bind (f_X10_go F h a0) (fun h20 =>
    Option.bind (e_is h20 a0 8) (fun _ =>
    Option.bind (f_X10_isName F h20 a0) (fun x24 =>
    if x24 = 0 then
      e_b2 (f_X10_bad h20 a0 1) (fun x32 h32 =>
      if x32 = 0 ∨ x32 = 1 then some (x32, h32) else none)
    else
      Option.bind (e_fA h20 a0 8 21) (fun x37 =>
      Option.bind (e_fJ h20 a0 8 13) (fun x42 =>
      Option.bind (f_X10_findIn F h20 x37 x5 x42) (fun x45 =>
      if x45 = (-1) then
        Option.bind (e_fA h20 a0 8 21) (fun x59 =>
        Option.bind (e_fJ h20 a0 8 13) (fun x64 =>
        Option.bind (e_wJ h20 x59 3 x5 x64) (fun h67 =>
        Option.bind (e_is h67 a0 8) (fun _ =>
        Option.bind (f_X10_go F h67 a0) (fun h69 =>
        Option.bind (some (105 + (17 * x5))) (fun x79 =>
        Option.bind (e_fA h69 a0 8 16) (fun x81 =>
        Option.bind (e_wI h69 x81 0 x79 0) (fun h86 =>
        e_bE (
            lp_X10_readBand_87 F a0 x79 F h86
          : Option (Except (Int32 × e_H) e_H)) (fun h210_1 =>
        Option.bind (e_is h210_1 a0 8) (fun _ =>
        Option.bind (f_X10_isSign h210_1 a0 59) (fun x213 =>
        if x213 = 0 then
          e_b2 (f_X10_bad h210_1 a0 1) (fun x221 h221 =>
          if x221 = 0 ∨ x221 = 1 then some (x221, h221) else none)
        else
          Option.bind (e_fA h210_1 a0 8 16) (fun x226 =>
          Option.bind (f_X10_wrong F h210_1 x226 x5 x5) (fun x231 =>
          if x231 ≤ 0 then
            Option.bind (e_fA h210_1 a0 8 16) (fun x251 =>
            Option.bind (e_aI h210_1 x251 0 4) (fun x256 =>
            Option.bind (e_wI h210_1 x251 0 4 (x256 + 1)) (fun h259 =>
            some (1, h259))))
          else
            Option.bind (e_gI h210_1 a0 8 12 x231) (fun h241 =>
            Option.bind (e_is h241 a0 8) (fun _ =>
            e_b2 (f_X10_bad h241 a0 5) (fun x246 h246 =>
            if x246 = 0 ∨ x246 = 1 then some (x246, h246) else none))))))))))))))))
      else
        e_b2 (f_X10_bad h20 a0 3) (fun x54 h54 =>
        if x54 = 0 ∨ x54 = 1 then some (x54, h54) else none)))))))))
set_option maxHeartbeats 4000000 in
set_option maxRecDepth 100000 in
theorem ct_X10_readBand {l : Launch} {D : e_D} {B : Heap} {F : Nat} {d : Nat} {h : e_H} {a0 : Nat} {v : Int32} {h1 : e_H} (hd : 8 ≤ d) (e : f_X10_readBand F h a0 = some (v, h1)) : e_Run l D B d mX10_readBand [.ref a0] h (.ok (some (.int v)), h1) := by
  refine e_start [some (.ref a0), none, none, none] (by decide) rfl rfl rfl (Nat.le_of_ble_eq_true rfl) (fun K hl0 hD0 hB0 hM hd0 hr => ?_)
  subst hl0 hD0 hB0 hd0
  have ho : (k_M K).1.cls = "PegBandsModel" := by rw [hM]; rfl
  have hT : (k_M K).2.2.2.1 = some (.boolean) := by rw [hM]
  refine (show Sx K cX10_readBand 0 [some (.ref a0), none, none, none] [] h (f_X10_readBand F h a0) (fun w => w = (v, h1)) from ?_) _ e rfl
  clear e
  unfold f_X10_readBand
  refine S_aload_n (dc_X10_readBand 0 rfl) rfl ?_
  refine S_getA (dc_X10_readBand 1 rfl) ho fl_X10_16_8_16 (fun _ _ => rfl) (fun x1 e1 => ?_)
  refine S_iconst_ 4 (dc_X10_readBand 2 rfl) rfl ?_
  refine S_iald (dc_X10_readBand 3 rfl) (fun x5 e5 => ?_)
  refine S_istore_n (L' := [some (.ref a0), some (.int x5), none, none]) (dc_X10_readBand 4 rfl) rfl ?_
  refine S_iload_n (dc_X10_readBand 5 rfl) rfl ?_
  refine S_bipush_ 8 (dc_X10_readBand 6 rfl) rfl ?_
  refine S_icmp_ne 19 (dc_X10_readBand 7 rfl) rfl (fun c10 => ?_) (fun c10 => ?_)
  · refine S_aload_n (dc_X10_readBand 12 rfl) rfl ?_
    refine S_rwV (d := k_d K - 1) (e_callV (b := a0) (As := []) (rest := []) ok_X10_go rfl (Nat.le_of_ble_eq_true rfl) (dc_X10_readBand 13 rfl) ho q1654 q1656 (show e_cl[8]? = some (RX10, TX10, 51) from rfl) (e_sel.of qs38) (e_fA_of e1).1 rfl (Nat.le_of_ble_eq_true rfl)) (by omega) (fun _ e => ct_X10_go (by omega) e) (fun h20 e20 => ?_)
    refine S_aload_n (dc_X10_readBand 14 rfl) rfl ?_
    refine Sx.ask (fun _ i24 => ?_)
    refine S_roI (d := k_d K - 1) (e_callV (b := a0) (As := []) (rest := []) ok_X10_isName rfl (Nat.le_of_ble_eq_true rfl) (dc_X10_readBand 15 rfl) ho q1722 q1724 (show e_cl[8]? = some (RX10, TX10, 51) from rfl) (e_sel.of qs50) (e_is_of i24) rfl (Nat.le_of_ble_eq_true rfl)) (by omega) (fun _ e => ct_X10_isName (by omega) e) (fun x24 e24 => ?_)
    refine S_if_ne 36 (dc_X10_readBand 16 rfl) rfl (fun c27 => ?_) (fun c27 => ?_)
    · refine S_aload_n (dc_X10_readBand 21 rfl) rfl ?_
      refine S_getA (dc_X10_readBand 22 rfl) ho fl_X10_32_8_21 (fun _ _ => rfl) (fun x37 e37 => ?_)
      refine S_iload_n (dc_X10_readBand 23 rfl) rfl ?_
      refine S_aload_n (dc_X10_readBand 24 rfl) rfl ?_
      refine S_getJ (dc_X10_readBand 25 rfl) ho fl_X10_133_8_13 (fun _ _ => rfl) (fun x42 e42 => ?_)
      refine S_roI (d := k_d K - 1) (e_callS (As := [.ref x37, .int x5, .long x42]) (rest := []) ok_X10_findIn rfl (Nat.le_of_ble_eq_true rfl) (dc_X10_readBand 26 rfl) ho q1726 q1727 rfl (Nat.le_of_ble_eq_true rfl)) (by omega) (fun _ e => ct_X10_findIn (by omega) e) (fun x45 e45 => ?_)
      refine S_iconst_ (-1) (dc_X10_readBand 27 rfl) rfl ?_
      refine S_icmp_eq 58 (dc_X10_readBand 28 rfl) rfl (fun c49 => ?_) (fun c49 => ?_)
      · refine S_aload_n (dc_X10_readBand 33 rfl) rfl ?_
        refine S_getA (dc_X10_readBand 34 rfl) ho fl_X10_32_8_21 (fun _ _ => rfl) (fun x59 e59 => ?_)
        refine S_iload_n (dc_X10_readBand 35 rfl) rfl ?_
        refine S_aload_n (dc_X10_readBand 36 rfl) rfl ?_
        refine S_getJ (dc_X10_readBand 37 rfl) ho fl_X10_133_8_13 (fun _ _ => rfl) (fun x64 e64 => ?_)
        refine S_last (dc_X10_readBand 38 rfl) (fun h67 e67 => ?_)
        refine S_aload_n (dc_X10_readBand 39 rfl) rfl ?_
        refine Sx.ask (fun _ i69 => ?_)
        refine S_rwV (d := k_d K - 1) (e_callV (b := a0) (As := []) (rest := []) ok_X10_go rfl (Nat.le_of_ble_eq_true rfl) (dc_X10_readBand 40 rfl) ho q1654 q1656 (show e_cl[8]? = some (RX10, TX10, 51) from rfl) (e_sel.of qs38) (e_is_of i69) rfl (Nat.le_of_ble_eq_true rfl)) (by omega) (fun _ e => ct_X10_go (by omega) e) (fun h69 e69 => ?_)
        refine S_bipush_ 105 (dc_X10_readBand 41 rfl) rfl ?_
        refine S_bipush_ 17 (dc_X10_readBand 42 rfl) rfl ?_
        refine S_iload_n (dc_X10_readBand 43 rfl) rfl ?_
        refine S_imul (dc_X10_readBand 44 rfl) ?_
        refine S_iadd (dc_X10_readBand 45 rfl) ?_
        refine Sx.nameI (fun x79 n79 => ?_)
        refine S_istore_n (L' := [some (.ref a0), some (.int x5), some (.int x79), none]) (dc_X10_readBand 46 rfl) rfl ?_
        refine S_aload_n (dc_X10_readBand 47 rfl) rfl ?_
        refine S_getA (dc_X10_readBand 48 rfl) ho fl_X10_16_8_16 (fun _ _ => rfl) (fun x81 e81 => ?_)
        refine S_iload_n (dc_X10_readBand 49 rfl) rfl ?_
        refine S_iconst_ 0 (dc_X10_readBand 50 rfl) rfl ?_
        refine S_iast (dc_X10_readBand 51 rfl) (fun h86 e86 => ?_)
        refine Sx.regKE1 (pc2 := 210) (L2 := fun (h210_1 : e_H) => [some (.ref a0), some (.int x5), none, none]) (st2 := fun (h210_1 : e_H) => []) (h2 := fun (h210_1 : e_H) => h210_1) ?_ (fun Q1 hK1 hE1 => ?_)
        · intro h210_1
          show Sx K cX10_readBand 210 [some (.ref a0), some (.int x5), none, none] [] h210_1 _ _
          refine S_aload_n (dc_X10_readBand 132 rfl) rfl ?_
          refine S_bipush_ 59 (dc_X10_readBand 133 rfl) rfl ?_
          refine Sx.ask (fun _ i213 => ?_)
          refine S_roI (d := k_d K - 1) (e_callV (b := a0) (As := [.int 59]) (rest := []) ok_X10_isSign rfl (Nat.le_of_ble_eq_true rfl) (dc_X10_readBand 134 rfl) ho q1706 q1708 (show e_cl[8]? = some (RX10, TX10, 51) from rfl) (e_sel.of qs46) (e_is_of i213) rfl (Nat.le_of_ble_eq_true rfl)) (by omega) (fun _ e => ct_X10_isSign (by omega) e) (fun x213 e213 => ?_)
          refine S_if_ne 225 (dc_X10_readBand 135 rfl) rfl (fun c216 => ?_) (fun c216 => ?_)
          · refine S_aload_n (dc_X10_readBand 140 rfl) rfl ?_
            refine S_getA (dc_X10_readBand 141 rfl) ho fl_X10_16_8_16 (fun _ _ => rfl) (fun x226 e226 => ?_)
            refine S_iload_n (dc_X10_readBand 142 rfl) rfl ?_
            refine S_iload_n (dc_X10_readBand 143 rfl) rfl ?_
            refine S_roI (d := k_d K - 1) (e_callS (As := [.ref x226, .int x5, .int x5]) (rest := []) ok_X10_wrong rfl (Nat.le_of_ble_eq_true rfl) (dc_X10_readBand 144 rfl) ho q1729 q1730 rfl (Nat.le_of_ble_eq_true rfl)) (by omega) (fun _ e => ct_X10_wrong (by omega) e) (fun x231 e231 => ?_)
            refine S_istore_n (L' := [some (.ref a0), some (.int x5), none, some (.int x231)]) (dc_X10_readBand 145 rfl) rfl ?_
            refine S_iload_n (dc_X10_readBand 146 rfl) rfl ?_
            refine S_if_le 250 (dc_X10_readBand 147 rfl) rfl (fun c236 => ?_) (fun c236 => ?_)
            · refine S_aload_n (dc_X10_readBand 155 rfl) rfl ?_
              refine S_getA (dc_X10_readBand 156 rfl) ho fl_X10_16_8_16 (fun _ _ => rfl) (fun x251 e251 => ?_)
              refine S_iconst_ 4 (dc_X10_readBand 157 rfl) rfl ?_
              refine S_dup2 (dc_X10_readBand 158 rfl) rfl rfl ?_
              refine S_iald (dc_X10_readBand 159 rfl) (fun x256 e256 => ?_)
              refine S_iconst_ 1 (dc_X10_readBand 160 rfl) rfl ?_
              refine S_iadd (dc_X10_readBand 161 rfl) ?_
              refine S_iast (dc_X10_readBand 162 rfl) (fun h259 e259 => ?_)
              refine S_iconst_ 1 (dc_X10_readBand 163 rfl) rfl ?_
              exact S_iret (dc_X10_readBand 164 rfl) hT rfl (e_rqI hr)
            · refine S_aload_n (dc_X10_readBand 148 rfl) rfl ?_
              refine S_iload_n (dc_X10_readBand 149 rfl) rfl ?_
              refine S_putI (dc_X10_readBand 150 rfl) ho fl_X10_249_8_12 (fun _ _ => rfl) (Or.inl rfl) rfl rfl (fun h241 e241 => ?_)
              refine S_aload_n (dc_X10_readBand 151 rfl) rfl ?_
              refine S_iconst_ 5 (dc_X10_readBand 152 rfl) rfl ?_
              refine Sx.ask (fun _ i246 => ?_)
              refine S_rwI (d := k_d K - 1) (e_callV (b := a0) (As := [.int 5]) (rest := []) ok_X10_bad rfl (Nat.le_of_ble_eq_true rfl) (dc_X10_readBand 153 rfl) ho q1687 q1689 (show e_cl[8]? = some (RX10, TX10, 51) from rfl) (e_sel.of qs42) (e_is_of i246) rfl (Nat.le_of_ble_eq_true rfl)) (by omega) (fun _ _ e => ct_X10_bad (by omega) e) (fun x246 h246 e246 => ?_)
              refine Sx.cond (fun c249 => ?_)
              exact S_iret (dc_X10_readBand 154 rfl) hT (e_narZ c249).1 (e_rqI hr)
          · refine S_aload_n (dc_X10_readBand 136 rfl) rfl ?_
            refine S_iconst_ 1 (dc_X10_readBand 137 rfl) rfl ?_
            refine S_rwI (d := k_d K - 1) (e_callV (b := a0) (As := [.int 1]) (rest := []) ok_X10_bad rfl (Nat.le_of_ble_eq_true rfl) (dc_X10_readBand 138 rfl) ho q1687 q1689 (show e_cl[8]? = some (RX10, TX10, 51) from rfl) (e_sel.of qs42) (e_is_of i213) rfl (Nat.le_of_ble_eq_true rfl)) (by omega) (fun _ _ e => ct_X10_bad (by omega) e) (fun x221 h221 e221 => ?_)
            refine Sx.cond (fun c224 => ?_)
            exact S_iret (dc_X10_readBand 139 rfl) hT (e_narZ c224).1 (e_rqI hr)
        · have hK1 : ∀ (h210_1 : e_H), Sx K cX10_readBand 210 [some (.ref a0), some (.int x5), none, none] [] h210_1 (some (.ok h210_1)) Q1 := hK1
          have ih1 : ∀ (n : Nat) (h_87 : e_H), Sx K cX10_readBand 87 [some (.ref a0), some (.int x5), some (.int x79), none] [] h_87 (lp_X10_readBand_87 F a0 x79 n h_87) Q1 := by
            intro n
            induction n with
            | zero => intro h_87; exact Sx.none
            | succ n ih1 =>
              intro h_87
              rw [lp_X10_readBand_87.eq_2]
              refine S_aload_n (dc_X10_readBand 52 rfl) rfl ?_
              refine S_getA (dc_X10_readBand 53 rfl) ho fl_X10_16_8_16 (fun _ _ => rfl) (fun x88 e88 => ?_)
              refine S_iload_n (dc_X10_readBand 54 rfl) rfl ?_
              refine S_iald (dc_X10_readBand 55 rfl) (fun x92 e92 => ?_)
              refine S_iconst_ 3 (dc_X10_readBand 56 rfl) rfl ?_
              refine Sx.regKE0 (pc2 := 105) (L2 := [some (.ref a0), some (.int x5), some (.int x79), none]) (st2 := []) (h2 := h_87) ?_ (fun Q2 hK2 hE2 => ?_)
              · skip
                refine S_aload_n (dc_X10_readBand 62 rfl) rfl ?_
                refine S_iconst_ 0 (dc_X10_readBand 63 rfl) rfl ?_
                refine S_aload_n (dc_X10_readBand 64 rfl) rfl ?_
                refine S_getA (dc_X10_readBand 65 rfl) ho fl_X10_16_8_16 (fun _ _ => rfl) (fun x108 e108 => ?_)
                refine S_iconst_ 0 (dc_X10_readBand 66 rfl) rfl ?_
                refine S_iald (dc_X10_readBand 67 rfl) (fun x112 e112 => ?_)
                refine S_iconst_ 1 (dc_X10_readBand 68 rfl) rfl ?_
                refine S_isub (dc_X10_readBand 69 rfl) ?_
                refine S_rwI (d := k_d K - 1) (e_callV (b := a0) (As := [.int 0, .int (x112 - 1)]) (rest := []) ok_X10_isNumber rfl (Nat.le_of_ble_eq_true rfl) (dc_X10_readBand 70 rfl) ho q1695 q1697 (show e_cl[8]? = some (RX10, TX10, 51) from rfl) (e_sel.of qs44) (e_fA_of e88).1 rfl (Nat.le_of_ble_eq_true rfl)) (by omega) (fun _ _ e => ct_X10_isNumber (by omega) e) (fun x115 h115 e115 => ?_)
                refine S_if_ne 123 (dc_X10_readBand 71 rfl) rfl (fun c118 => ?_) (fun c118 => ?_)
                · refine S_aload_n (dc_X10_readBand 74 rfl) rfl ?_
                  refine S_getA (dc_X10_readBand 75 rfl) ho fl_X10_16_8_16 (fun _ _ => rfl) (fun x124 e124 => ?_)
                  refine S_iload_n (dc_X10_readBand 76 rfl) rfl ?_
                  refine S_iald (dc_X10_readBand 77 rfl) (fun x128 e128 => ?_)
                  refine S_bipush_ 8 (dc_X10_readBand 78 rfl) rfl ?_
                  refine S_icmp_ne 140 (dc_X10_readBand 79 rfl) rfl (fun c131 => ?_) (fun c131 => ?_)
                  · refine S_iload_n (dc_X10_readBand 84 rfl) rfl ?_
                    refine S_iconst_ 1 (dc_X10_readBand 85 rfl) rfl ?_
                    refine S_iadd (dc_X10_readBand 86 rfl) ?_
                    refine S_iconst_ 2 (dc_X10_readBand 87 rfl) rfl ?_
                    refine S_aload_n (dc_X10_readBand 88 rfl) rfl ?_
                    refine S_getA (dc_X10_readBand 89 rfl) ho fl_X10_16_8_16 (fun _ _ => rfl) (fun x145 e145 => ?_)
                    refine S_iload_n (dc_X10_readBand 90 rfl) rfl ?_
                    refine S_iald (dc_X10_readBand 91 rfl) (fun x149 e149 => ?_)
                    refine S_imul (dc_X10_readBand 92 rfl) ?_
                    refine S_iadd (dc_X10_readBand 93 rfl) ?_
                    refine Sx.nameI (fun x152 n152 => ?_)
                    refine S_istore_n (L' := [some (.ref a0), some (.int x5), some (.int x79), some (.int x152)]) (dc_X10_readBand 94 rfl) rfl ?_
                    refine S_aload_n (dc_X10_readBand 95 rfl) rfl ?_
                    refine S_getA (dc_X10_readBand 96 rfl) ho fl_X10_16_8_16 (fun _ _ => rfl) (fun x154 e154 => ?_)
                    refine S_iload_n (dc_X10_readBand 97 rfl) rfl ?_
                    refine S_aload_n (dc_X10_readBand 98 rfl) rfl ?_
                    refine S_getI (dc_X10_readBand 99 rfl) ho fl_X10_172_8_14 (fun _ _ => rfl) (fun x159 e159 => ?_)
                    refine S_iast (dc_X10_readBand 100 rfl) (fun h162 e162 => ?_)
                    refine S_aload_n (dc_X10_readBand 101 rfl) rfl ?_
                    refine Sx.ask (fun _ i164 => ?_)
                    refine S_rwV (d := k_d K - 1) (e_callV (b := a0) (As := []) (rest := []) ok_X10_go rfl (Nat.le_of_ble_eq_true rfl) (dc_X10_readBand 102 rfl) ho q1654 q1656 (show e_cl[8]? = some (RX10, TX10, 51) from rfl) (e_sel.of qs38) (e_is_of i164) rfl (Nat.le_of_ble_eq_true rfl)) (by omega) (fun _ e => ct_X10_go (by omega) e) (fun h164 e164 => ?_)
                    refine S_aload_n (dc_X10_readBand 103 rfl) rfl ?_
                    refine S_iconst_ 0 (dc_X10_readBand 104 rfl) rfl ?_
                    refine S_aload_n (dc_X10_readBand 105 rfl) rfl ?_
                    refine S_getA (dc_X10_readBand 106 rfl) ho fl_X10_16_8_16 (fun _ _ => rfl) (fun x170 e170 => ?_)
                    refine S_iconst_ 1 (dc_X10_readBand 107 rfl) rfl ?_
                    refine S_iald (dc_X10_readBand 108 rfl) (fun x174 e174 => ?_)
                    refine S_iconst_ 1 (dc_X10_readBand 109 rfl) rfl ?_
                    refine S_isub (dc_X10_readBand 110 rfl) ?_
                    refine S_rwI (d := k_d K - 1) (e_callV (b := a0) (As := [.int 0, .int (x174 - 1)]) (rest := []) ok_X10_readNumber rfl (Nat.le_of_ble_eq_true rfl) (dc_X10_readBand 111 rfl) ho q1691 q1693 (show e_cl[8]? = some (RX10, TX10, 51) from rfl) (e_sel.of qs43) (e_fA_of e170).1 rfl (Nat.le_of_ble_eq_true rfl)) (by omega) (fun _ _ e => ct_X10_readNumber (by omega) e) (fun x177 h177 e177 => ?_)
                    refine S_if_ne 185 (dc_X10_readBand 112 rfl) rfl (fun c180 => ?_) (fun c180 => ?_)
                    · refine S_aload_n (dc_X10_readBand 115 rfl) rfl ?_
                      refine S_getA (dc_X10_readBand 116 rfl) ho fl_X10_16_8_16 (fun _ _ => rfl) (fun x186 e186 => ?_)
                      refine S_iload_n (dc_X10_readBand 117 rfl) rfl ?_
                      refine S_iconst_ 1 (dc_X10_readBand 118 rfl) rfl ?_
                      refine S_iadd (dc_X10_readBand 119 rfl) ?_
                      refine S_aload_n (dc_X10_readBand 120 rfl) rfl ?_
                      refine S_getI (dc_X10_readBand 121 rfl) ho fl_X10_172_8_14 (fun _ _ => rfl) (fun x193 e193 => ?_)
                      refine S_iast (dc_X10_readBand 122 rfl) (fun h196 e196 => ?_)
                      refine S_aload_n (dc_X10_readBand 123 rfl) rfl ?_
                      refine S_getA (dc_X10_readBand 124 rfl) ho fl_X10_16_8_16 (fun _ _ => rfl) (fun x198 e198 => ?_)
                      refine S_iload_n (dc_X10_readBand 125 rfl) rfl ?_
                      refine S_dup2 (dc_X10_readBand 126 rfl) rfl rfl ?_
                      refine S_iald (dc_X10_readBand 127 rfl) (fun x203 e203 => ?_)
                      refine S_iconst_ 1 (dc_X10_readBand 128 rfl) rfl ?_
                      refine S_iadd (dc_X10_readBand 129 rfl) ?_
                      refine S_iast (dc_X10_readBand 130 rfl) (fun h206 e206 => ?_)
                      refine S_goto 87 (dc_X10_readBand 131 rfl) rfl ?_
                      refine Sx.cut [true, true, true, false] ?_
                      exact ih1 h206
                    · refine S_iconst_ 0 (dc_X10_readBand 113 rfl) rfl ?_
                      refine Sx.err hE1 ?_
                      exact S_iret (dc_X10_readBand 114 rfl) hT rfl (e_rqI hr)
                  · refine S_aload_n (dc_X10_readBand 80 rfl) rfl ?_
                    refine S_iconst_ 4 (dc_X10_readBand 81 rfl) rfl ?_
                    refine S_rwI (d := k_d K - 1) (e_callV (b := a0) (As := [.int 4]) (rest := []) ok_X10_bad rfl (Nat.le_of_ble_eq_true rfl) (dc_X10_readBand 82 rfl) ho q1687 q1689 (show e_cl[8]? = some (RX10, TX10, 51) from rfl) (e_sel.of qs42) (e_fA_of e124).1 rfl (Nat.le_of_ble_eq_true rfl)) (by omega) (fun _ _ e => ct_X10_bad (by omega) e) (fun x136 h136 e136 => ?_)
                    refine Sx.cond (fun c139 => ?_)
                    refine Sx.err hE1 ?_
                    exact S_iret (dc_X10_readBand 83 rfl) hT (e_narZ c139).1 (e_rqI hr)
                · refine S_iconst_ 0 (dc_X10_readBand 72 rfl) rfl ?_
                  refine Sx.err hE1 ?_
                  exact S_iret (dc_X10_readBand 73 rfl) hT rfl (e_rqI hr)
              · have hK2 : Sx K cX10_readBand 105 [some (.ref a0), some (.int x5), some (.int x79), none] [] h_87 (some (.ok ())) Q2 := hK2
                refine S_icmp_lt 105 (dc_X10_readBand 57 rfl) rfl (fun c94 => ?_) (fun c94 => ?_)
                · exact hK2
                · refine S_aload_n (dc_X10_readBand 58 rfl) rfl ?_
                  refine S_getI (dc_X10_readBand 59 rfl) ho fl_X10_120_8_7 (fun _ _ => rfl) (fun x98 e98 => ?_)
                  refine S_iconst_ 3 (dc_X10_readBand 60 rfl) rfl ?_
                  refine S_icmp_ne 210 (dc_X10_readBand 61 rfl) rfl (fun c102 => ?_) (fun c102 => ?_)
                  · refine Sx.cut [true, true, false, true] ?_
                    refine Sx.err hE2 ?_
                    exact hK1 h_87
                  · exact hK2
          exact ih1 F h86
      · refine S_aload_n (dc_X10_readBand 29 rfl) rfl ?_
        refine S_iconst_ 3 (dc_X10_readBand 30 rfl) rfl ?_
        refine S_rwI (d := k_d K - 1) (e_callV (b := a0) (As := [.int 3]) (rest := []) ok_X10_bad rfl (Nat.le_of_ble_eq_true rfl) (dc_X10_readBand 31 rfl) ho q1687 q1689 (show e_cl[8]? = some (RX10, TX10, 51) from rfl) (e_sel.of qs42) (e_is_of i24) rfl (Nat.le_of_ble_eq_true rfl)) (by omega) (fun _ _ e => ct_X10_bad (by omega) e) (fun x54 h54 e54 => ?_)
        refine Sx.cond (fun c57 => ?_)
        exact S_iret (dc_X10_readBand 32 rfl) hT (e_narZ c57).1 (e_rqI hr)
    · refine S_aload_n (dc_X10_readBand 17 rfl) rfl ?_
      refine S_iconst_ 1 (dc_X10_readBand 18 rfl) rfl ?_
      refine S_rwI (d := k_d K - 1) (e_callV (b := a0) (As := [.int 1]) (rest := []) ok_X10_bad rfl (Nat.le_of_ble_eq_true rfl) (dc_X10_readBand 19 rfl) ho q1687 q1689 (show e_cl[8]? = some (RX10, TX10, 51) from rfl) (e_sel.of qs42) (e_is_of i24) rfl (Nat.le_of_ble_eq_true rfl)) (by omega) (fun _ _ e => ct_X10_bad (by omega) e) (fun x32 h32 e32 => ?_)
      refine Sx.cond (fun c35 => ?_)
      exact S_iret (dc_X10_readBand 20 rfl) hT (e_narZ c35).1 (e_rqI hr)
  · refine S_aload_n (dc_X10_readBand 8 rfl) rfl ?_
    refine S_iconst_ 4 (dc_X10_readBand 9 rfl) rfl ?_
    refine S_rwI (d := k_d K - 1) (e_callV (b := a0) (As := [.int 4]) (rest := []) ok_X10_bad rfl (Nat.le_of_ble_eq_true rfl) (dc_X10_readBand 10 rfl) ho q1687 q1689 (show e_cl[8]? = some (RX10, TX10, 51) from rfl) (e_sel.of qs42) (e_fA_of e1).1 rfl (Nat.le_of_ble_eq_true rfl)) (by omega) (fun _ _ e => ct_X10_bad (by omega) e) (fun x15 h15 e15 => ?_)
    refine Sx.cond (fun c18 => ?_)
    exact S_iret (dc_X10_readBand 11 rfl) hT (e_narZ c18).1 (e_rqI hr)
abbrev cX10_board : ByteArray := prog_18_method_46_code
def yX10_board : MethodName := ⟨"PegBandsModel", "board", "()I"⟩
def tb_X10_board : List (Nat × Instr × Nat) := [(0, .aload_n 0, 1), (1, .sipush 600, 3), (4, .invokevirtual 258, 3), (7, .iconst 0, 1), (8, .istore_n 1, 1), (9, .iload_n 1, 1), (10, .sipush 241, 3), (13, .if_icmp .ge 16, 3), (16, .aload_n 0, 1), (17, .getfield 16, 3), (20, .iload_n 1, 1), (21, .iconst 0, 1), (22, .iastore, 1), (23, .iinc 1 1, 3), (26, .goto (-17), 3), (29, .aload_n 0, 1), (30, .invokevirtual 261, 3), (33, .ifCond .ne 10, 3), (36, .iconst (-1), 1), (37, .aload_n 0, 1), (38, .getfield 162, 3), (41, .isub, 1), (42, .ireturn, 1), (43, .iconst 1, 1), (44, .istore_n 1, 1), (45, .aload_n 0, 1), (46, .getfield 120, 3), (49, .ifCond .eq 78, 3), (52, .aload_n 0, 1), (53, .iconst 1, 1), (54, .invokevirtual 252, 3), (57, .ifCond .eq 10, 3), (60, .aload_n 0, 1), (61, .invokevirtual 264, 3), (64, .goto 38, 3), (67, .aload_n 0, 1), (68, .iconst 2, 1), (69, .invokevirtual 252, 3), (72, .ifCond .eq 10, 3), (75, .aload_n 0, 1), (76, .invokevirtual 267, 3), (79, .goto 23, 3), (82, .aload_n 0, 1), (83, .iconst 3, 1), (84, .invokevirtual 252, 3), (87, .ifCond .eq 10, 3), (90, .aload_n 0, 1), (91, .invokevirtual 270, 3), (94, .goto 8, 3), (97, .aload_n 0, 1), (98, .iconst 1, 1), (99, .invokevirtual 165, 3), (102, .istore_n 2, 1), (103, .iload_n 2, 1), (104, .ifCond .eq 10, 3), (107, .aload_n 0, 1), (108, .invokevirtual 255, 3), (111, .ifCond .ne 10, 3), (114, .iconst (-1), 1), (115, .aload_n 0, 1), (116, .getfield 162, 3), (119, .isub, 1), (120, .ireturn, 1), (121, .iinc 1 1, 3), (124, .goto (-79), 3), (127, .iconst 0, 1), (128, .istore_n 2, 1), (129, .iload_n 2, 1), (130, .sipush 241, 3), (133, .if_icmp .ge 21, 3), (136, .aload_n 0, 1), (137, .getfield 13, 3), (140, .iload_n 2, 1), (141, .aload_n 0, 1), (142, .getfield 16, 3), (145, .iload_n 2, 1), (146, .iaload, 1), (147, .iastore, 1), (148, .iinc 2 1, 3), (151, .goto (-22), 3), (154, .sipush 241, 3), (157, .istore_n 2, 1), (158, .iload_n 2, 1), (159, .sipush 512, 3), (162, .if_icmp .ge 16, 3), (165, .aload_n 0, 1), (166, .getfield 13, 3), (169, .iload_n 2, 1), (170, .iconst 0, 1), (171, .iastore, 1), (172, .iinc 2 1, 3), (175, .goto (-17), 3), (178, .iconst 0, 1), (179, .istore_n 2, 1), (180, .iload_n 2, 1), (181, .bipush 8, 2), (183, .if_icmp .ge 21, 3), (186, .aload_n 0, 1), (187, .getfield 28, 3), (190, .iload_n 2, 1), (191, .aload_n 0, 1), (192, .getfield 32, 3), (195, .iload_n 2, 1), (196, .laload, 1), (197, .lastore, 1), (198, .iinc 2 1, 3), (201, .goto (-21), 3), (204, .aload_n 0, 1), (205, .iconst 0, 1), (206, .putfield 273, 3), (209, .iload_n 1, 1), (210, .ireturn, 1)]
theorem tk_X10_board : ∀ q ∈ tb_X10_board, decode cX10_board q.1 = .ok q.2 := by decide +kernel
theorem dc_X10_board (k : Nat) {pc n : Nat} {i : Instr} (h : tb_X10_board[k]? = some (pc, i, n)) : decode cX10_board pc = .ok (i, n) := tk_X10_board (pc, i, n) (List.mem_of_getElem? h)
abbrev mX10_board : e_M := (yX10_board, cX10_board, 3, some (.int), [])
theorem ok_X10_board : e_mok mX10_board 0 := ⟨q1645, q119, by decide +kernel, fun sig h => by cases h; rfl⟩
theorem fl_X10_273_8_27 : e_FL "PegBandsModel" 273 8 27 := ⟨_, rfl, by decide, Or.inl q1498⟩
def lp_X10_board_9 (F : Nat) (a0 : Nat) : Nat → Int32 → e_H → Option (e_H)
  | 0, _, _ => none
  | n + 1, x1_9, h_9 =>
    if 241 ≤ x1_9 then
      some h_9
    else
      Option.bind (e_fA h_9 a0 8 16) (fun x17 =>
      Option.bind (e_wI h_9 x17 0 x1_9 0) (fun h22 =>
      Option.bind (some (x1_9 + 1)) (fun x23 =>
      lp_X10_board_9 F a0 n x23 h22)))
def lp_X10_board_45 (F : Nat) (a0 : Nat) : Nat → Int32 → e_H → Option (Except (Int32 × e_H) (Int32 × e_H))
  | 0, _, _ => none
  | n + 1, x1_45, h_45 =>
    Option.bind (e_fI h_45 a0 8 7) (fun x46 =>
    if x46 = 0 then
      some (.ok (x1_45, h_45))
    else
      Option.bind (f_X10_isWord h_45 a0 1) (fun x54 =>
      Option.bind (
          if x54 = 0 then
            Option.bind (f_X10_isWord h_45 a0 2) (fun x69 =>
            if x69 = 0 then
              Option.bind (f_X10_isWord h_45 a0 3) (fun x84 =>
              if x84 = 0 then
                e_b2 (f_X10_bad h_45 a0 1) (fun x99 h99 =>
                some (x99, h99))
              else
                e_b2 (f_X10_readBand F h_45 a0) (fun x91 h91 =>
                some (x91, h91)))
            else
              e_b2 (f_X10_readOut F h_45 a0) (fun x76 h76 =>
              some (x76, h76)))
          else
            e_b2 (f_X10_readBell F h_45 a0) (fun x61 h61 =>
            some (x61, h61))
        : Option ((Int32 × e_H))) (e_u2 (fun s102_3 h102_3 =>
      if s102_3 = 0 then
        Option.bind (e_fI h102_3 a0 8 11) (fun x116 =>
        some (.error (((-1) - x116), h102_3)))
      else
        Option.bind (e_is h102_3 a0 8) (fun _ =>
        e_b2 (f_X10_readEnd F h102_3 a0) (fun x108 h108 =>
        if x108 = 0 then
          Option.bind (e_fI h108 a0 8 11) (fun x116 =>
          some (.error (((-1) - x116), h108)))
        else
          Option.bind (some (x1_45 + 1)) (fun x121 =>
          lp_X10_board_45 F a0 n x121 h108)))))))
def lp_X10_board_129 (F : Nat) (a0 : Nat) : Nat → Int32 → e_H → Option (e_H)
  | 0, _, _ => none
  | n + 1, x2_129, h_129 =>
    if 241 ≤ x2_129 then
      some h_129
    else
      Option.bind (e_fA h_129 a0 8 15) (fun x137 =>
      Option.bind (e_fA h_129 a0 8 16) (fun x142 =>
      Option.bind (e_aI h_129 x142 0 x2_129) (fun x146 =>
      Option.bind (e_wI h_129 x137 0 x2_129 x146) (fun h147 =>
      Option.bind (some (x2_129 + 1)) (fun x148 =>
      lp_X10_board_129 F a0 n x148 h147)))))
def lp_X10_board_158 (F : Nat) (a0 : Nat) : Nat → Int32 → e_H → Option (e_H)
  | 0, _, _ => none
  | n + 1, x2_158, h_158 =>
    if 512 ≤ x2_158 then
      some h_158
    else
      Option.bind (e_fA h_158 a0 8 15) (fun x166 =>
      Option.bind (e_wI h_158 x166 0 x2_158 0) (fun h171 =>
      Option.bind (some (x2_158 + 1)) (fun x172 =>
      lp_X10_board_158 F a0 n x172 h171)))
def lp_X10_board_180 (F : Nat) (a0 : Nat) : Nat → Int32 → e_H → Option (e_H)
  | 0, _, _ => none
  | n + 1, x2_180, h_180 =>
    if 8 ≤ x2_180 then
      some h_180
    else
      Option.bind (e_fA h_180 a0 8 20) (fun x187 =>
      Option.bind (e_fA h_180 a0 8 21) (fun x192 =>
      Option.bind (e_aJ h_180 x192 3 x2_180) (fun x196 =>
      Option.bind (e_wJ h_180 x187 3 x2_180 x196) (fun h197 =>
      Option.bind (some (x2_180 + 1)) (fun x198 =>
      lp_X10_board_180 F a0 n x198 h197)))))
def f_X10_board (F : Nat) (h : e_H) (a0 : Nat) : Option (Int32 × e_H) :=
  Option.bind (e_is h a0 8) (fun _ =>
  Option.bind (f_X10_begin F h a0 600) (fun h4 =>
  Option.bind (
      lp_X10_board_9 F a0 F 0 h4
    : Option (e_H)) (fun h29_1 =>
  Option.bind (e_is h29_1 a0 8) (fun _ =>
  e_b2 (f_X10_readHead F h29_1 a0) (fun x30 h30 =>
  if x30 = 0 then
    Option.bind (e_fI h30 a0 8 11) (fun x38 =>
    some (((-1) - x38), h30))
  else
    e_bE (
        lp_X10_board_45 F a0 F 1 h30
      : Option (Except (Int32 × e_H) (Int32 × e_H))) (e_u2 (fun x1_127_2 h127_2 =>
    Option.bind (
        lp_X10_board_129 F a0 F 0 h127_2
      : Option (e_H)) (fun h154_4 =>
    Option.bind (
        lp_X10_board_158 F a0 F 241 h154_4
      : Option (e_H)) (fun h178_5 =>
    Option.bind (
        lp_X10_board_180 F a0 F 0 h178_5
      : Option (e_H)) (fun h204_6 =>
    Option.bind (e_gI h204_6 a0 8 27 0) (fun h206 =>
    some (x1_127_2, h206))))))))))))
set_option maxHeartbeats 4000000 in
set_option maxRecDepth 100000 in
theorem ct_X10_board {l : Launch} {D : e_D} {B : Heap} {F : Nat} {d : Nat} {h : e_H} {a0 : Nat} {v : Int32} {h1 : e_H} (hd : 9 ≤ d) (e : f_X10_board F h a0 = some (v, h1)) : e_Run l D B d mX10_board [.ref a0] h (.ok (some (.int v)), h1) := by
  refine e_start [some (.ref a0), none, none] (by decide) rfl rfl rfl (Nat.le_of_ble_eq_true rfl) (fun K hl0 hD0 hB0 hM hd0 hr => ?_)
  subst hl0 hD0 hB0 hd0
  have ho : (k_M K).1.cls = "PegBandsModel" := by rw [hM]; rfl
  have hT : (k_M K).2.2.2.1 = some (.int) := by rw [hM]
  refine (show Sx K cX10_board 0 [some (.ref a0), none, none] [] h (f_X10_board F h a0) (fun w => w = (v, h1)) from ?_) _ e rfl
  clear e
  unfold f_X10_board
  refine S_aload_n (dc_X10_board 0 rfl) rfl ?_
  refine S_sipush_ 600 (dc_X10_board 1 rfl) rfl ?_
  refine Sx.ask (fun _ i4 => ?_)
  refine S_rwV (d := k_d K - 1) (e_callV (b := a0) (As := [.int 600]) (rest := []) ok_X10_begin rfl (Nat.le_of_ble_eq_true rfl) (dc_X10_board 2 rfl) ho q1646 q1648 (show e_cl[8]? = some (RX10, TX10, 51) from rfl) (e_sel.of qs36) (e_is_of i4) rfl (Nat.le_of_ble_eq_true rfl)) (by omega) (fun _ e => ct_X10_begin (by omega) e) (fun h4 e4 => ?_)
  refine S_iconst_ 0 (dc_X10_board 3 rfl) rfl ?_
  refine S_istore_n (L' := [some (.ref a0), some (.int 0), none]) (dc_X10_board 4 rfl) rfl ?_
  refine Sx.regK1 (pc2 := 29) (L2 := fun (h29_1 : e_H) => [some (.ref a0), none, none]) (st2 := fun (h29_1 : e_H) => []) (h2 := fun (h29_1 : e_H) => h29_1) ?_ (fun Q1 hK1 => ?_)
  · intro h29_1
    show Sx K cX10_board 29 [some (.ref a0), none, none] [] h29_1 _ _
    refine S_aload_n (dc_X10_board 15 rfl) rfl ?_
    refine Sx.ask (fun _ i30 => ?_)
    refine S_rwI (d := k_d K - 1) (e_callV (b := a0) (As := []) (rest := []) ok_X10_readHead rfl (Nat.le_of_ble_eq_true rfl) (dc_X10_board 16 rfl) ho q1670 q1672 (show e_cl[8]? = some (RX10, TX10, 51) from rfl) (e_sel.of qs40) (e_is_of i30) rfl (Nat.le_of_ble_eq_true rfl)) (by omega) (fun _ _ e => ct_X10_readHead (by omega) e) (fun x30 h30 e30 => ?_)
    refine S_if_ne 43 (dc_X10_board 17 rfl) rfl (fun c33 => ?_) (fun c33 => ?_)
    · refine S_iconst_ 1 (dc_X10_board 23 rfl) rfl ?_
      refine S_istore_n (L' := [some (.ref a0), some (.int 1), none]) (dc_X10_board 24 rfl) rfl ?_
      refine Sx.regKE2 (pc2 := 127) (L2 := fun (x1_127_2 : Int32) (h127_2 : e_H) => [some (.ref a0), some (.int x1_127_2), none]) (st2 := fun (x1_127_2 : Int32) (h127_2 : e_H) => []) (h2 := fun (x1_127_2 : Int32) (h127_2 : e_H) => h127_2) ?_ (fun Q2 hK2 hE2 => ?_)
      · intro x1_127_2 h127_2
        show Sx K cX10_board 127 [some (.ref a0), some (.int x1_127_2), none] [] h127_2 _ _
        refine S_iconst_ 0 (dc_X10_board 65 rfl) rfl ?_
        refine S_istore_n (L' := [some (.ref a0), some (.int x1_127_2), some (.int 0)]) (dc_X10_board 66 rfl) rfl ?_
        refine Sx.regK1 (pc2 := 154) (L2 := fun (h154_4 : e_H) => [some (.ref a0), some (.int x1_127_2), none]) (st2 := fun (h154_4 : e_H) => []) (h2 := fun (h154_4 : e_H) => h154_4) ?_ (fun Q4 hK4 => ?_)
        · intro h154_4
          show Sx K cX10_board 154 [some (.ref a0), some (.int x1_127_2), none] [] h154_4 _ _
          refine S_sipush_ 241 (dc_X10_board 80 rfl) rfl ?_
          refine S_istore_n (L' := [some (.ref a0), some (.int x1_127_2), some (.int 241)]) (dc_X10_board 81 rfl) rfl ?_
          refine Sx.regK1 (pc2 := 178) (L2 := fun (h178_5 : e_H) => [some (.ref a0), some (.int x1_127_2), none]) (st2 := fun (h178_5 : e_H) => []) (h2 := fun (h178_5 : e_H) => h178_5) ?_ (fun Q5 hK5 => ?_)
          · intro h178_5
            show Sx K cX10_board 178 [some (.ref a0), some (.int x1_127_2), none] [] h178_5 _ _
            refine S_iconst_ 0 (dc_X10_board 92 rfl) rfl ?_
            refine S_istore_n (L' := [some (.ref a0), some (.int x1_127_2), some (.int 0)]) (dc_X10_board 93 rfl) rfl ?_
            refine Sx.regK1 (pc2 := 204) (L2 := fun (h204_6 : e_H) => [some (.ref a0), some (.int x1_127_2), none]) (st2 := fun (h204_6 : e_H) => []) (h2 := fun (h204_6 : e_H) => h204_6) ?_ (fun Q6 hK6 => ?_)
            · intro h204_6
              show Sx K cX10_board 204 [some (.ref a0), some (.int x1_127_2), none] [] h204_6 _ _
              refine S_aload_n (dc_X10_board 107 rfl) rfl ?_
              refine S_iconst_ 0 (dc_X10_board 108 rfl) rfl ?_
              refine S_putI (dc_X10_board 109 rfl) ho fl_X10_273_8_27 (fun _ _ => rfl) (Or.inl rfl) rfl rfl (fun h206 e206 => ?_)
              refine S_iload_n (dc_X10_board 110 rfl) rfl ?_
              exact S_iret (dc_X10_board 111 rfl) hT rfl (e_rqI hr)
            · have hK6 : ∀ (h204_6 : e_H), Sx K cX10_board 204 [some (.ref a0), some (.int x1_127_2), none] [] h204_6 (some h204_6) Q6 := hK6
              have ih6 : ∀ (n : Nat) (x2_180 : Int32) (h_180 : e_H), Sx K cX10_board 180 [some (.ref a0), some (.int x1_127_2), some (.int x2_180)] [] h_180 (lp_X10_board_180 F a0 n x2_180 h_180) Q6 := by
                intro n
                induction n with
                | zero => intro x2_180 h_180; exact Sx.none
                | succ n ih6 =>
                  intro x2_180 h_180
                  rw [lp_X10_board_180.eq_2]
                  refine S_iload_n (dc_X10_board 94 rfl) rfl ?_
                  refine S_bipush_ 8 (dc_X10_board 95 rfl) rfl ?_
                  refine S_icmp_ge 204 (dc_X10_board 96 rfl) rfl (fun c183 => ?_) (fun c183 => ?_)
                  · refine Sx.cut [true, true, false] ?_
                    exact hK6 h_180
                  · refine S_aload_n (dc_X10_board 97 rfl) rfl ?_
                    refine S_getA (dc_X10_board 98 rfl) ho fl_X10_28_8_20 (fun _ _ => rfl) (fun x187 e187 => ?_)
                    refine S_iload_n (dc_X10_board 99 rfl) rfl ?_
                    refine S_aload_n (dc_X10_board 100 rfl) rfl ?_
                    refine S_getA (dc_X10_board 101 rfl) ho fl_X10_32_8_21 (fun _ _ => rfl) (fun x192 e192 => ?_)
                    refine S_iload_n (dc_X10_board 102 rfl) rfl ?_
                    refine S_lald (dc_X10_board 103 rfl) (fun x196 e196 => ?_)
                    refine S_last (dc_X10_board 104 rfl) (fun h197 e197 => ?_)
                    refine S_iincN 1 (L' := fun x198 => [some (.ref a0), some (.int x1_127_2), some (.int x198)]) (dc_X10_board 105 rfl) rfl rfl (fun _ => rfl) (fun x198 n198 => ?_)
                    refine S_goto 180 (dc_X10_board 106 rfl) rfl ?_
                    exact ih6 x198 h197
              exact ih6 F 0 h178_5
          · have hK5 : ∀ (h178_5 : e_H), Sx K cX10_board 178 [some (.ref a0), some (.int x1_127_2), none] [] h178_5 (some h178_5) Q5 := hK5
            have ih5 : ∀ (n : Nat) (x2_158 : Int32) (h_158 : e_H), Sx K cX10_board 158 [some (.ref a0), some (.int x1_127_2), some (.int x2_158)] [] h_158 (lp_X10_board_158 F a0 n x2_158 h_158) Q5 := by
              intro n
              induction n with
              | zero => intro x2_158 h_158; exact Sx.none
              | succ n ih5 =>
                intro x2_158 h_158
                rw [lp_X10_board_158.eq_2]
                refine S_iload_n (dc_X10_board 82 rfl) rfl ?_
                refine S_sipush_ 512 (dc_X10_board 83 rfl) rfl ?_
                refine S_icmp_ge 178 (dc_X10_board 84 rfl) rfl (fun c162 => ?_) (fun c162 => ?_)
                · refine Sx.cut [true, true, false] ?_
                  exact hK5 h_158
                · refine S_aload_n (dc_X10_board 85 rfl) rfl ?_
                  refine S_getA (dc_X10_board 86 rfl) ho fl_X10_13_8_15 (fun _ _ => rfl) (fun x166 e166 => ?_)
                  refine S_iload_n (dc_X10_board 87 rfl) rfl ?_
                  refine S_iconst_ 0 (dc_X10_board 88 rfl) rfl ?_
                  refine S_iast (dc_X10_board 89 rfl) (fun h171 e171 => ?_)
                  refine S_iincN 1 (L' := fun x172 => [some (.ref a0), some (.int x1_127_2), some (.int x172)]) (dc_X10_board 90 rfl) rfl rfl (fun _ => rfl) (fun x172 n172 => ?_)
                  refine S_goto 158 (dc_X10_board 91 rfl) rfl ?_
                  exact ih5 x172 h171
            exact ih5 F 241 h154_4
        · have hK4 : ∀ (h154_4 : e_H), Sx K cX10_board 154 [some (.ref a0), some (.int x1_127_2), none] [] h154_4 (some h154_4) Q4 := hK4
          have ih4 : ∀ (n : Nat) (x2_129 : Int32) (h_129 : e_H), Sx K cX10_board 129 [some (.ref a0), some (.int x1_127_2), some (.int x2_129)] [] h_129 (lp_X10_board_129 F a0 n x2_129 h_129) Q4 := by
            intro n
            induction n with
            | zero => intro x2_129 h_129; exact Sx.none
            | succ n ih4 =>
              intro x2_129 h_129
              rw [lp_X10_board_129.eq_2]
              refine S_iload_n (dc_X10_board 67 rfl) rfl ?_
              refine S_sipush_ 241 (dc_X10_board 68 rfl) rfl ?_
              refine S_icmp_ge 154 (dc_X10_board 69 rfl) rfl (fun c133 => ?_) (fun c133 => ?_)
              · refine Sx.cut [true, true, false] ?_
                exact hK4 h_129
              · refine S_aload_n (dc_X10_board 70 rfl) rfl ?_
                refine S_getA (dc_X10_board 71 rfl) ho fl_X10_13_8_15 (fun _ _ => rfl) (fun x137 e137 => ?_)
                refine S_iload_n (dc_X10_board 72 rfl) rfl ?_
                refine S_aload_n (dc_X10_board 73 rfl) rfl ?_
                refine S_getA (dc_X10_board 74 rfl) ho fl_X10_16_8_16 (fun _ _ => rfl) (fun x142 e142 => ?_)
                refine S_iload_n (dc_X10_board 75 rfl) rfl ?_
                refine S_iald (dc_X10_board 76 rfl) (fun x146 e146 => ?_)
                refine S_iast (dc_X10_board 77 rfl) (fun h147 e147 => ?_)
                refine S_iincN 1 (L' := fun x148 => [some (.ref a0), some (.int x1_127_2), some (.int x148)]) (dc_X10_board 78 rfl) rfl rfl (fun _ => rfl) (fun x148 n148 => ?_)
                refine S_goto 129 (dc_X10_board 79 rfl) rfl ?_
                exact ih4 x148 h147
          exact ih4 F 0 h127_2
      · have hK2 : ∀ (x1_127_2 : Int32) (h127_2 : e_H), Sx K cX10_board 127 [some (.ref a0), some (.int x1_127_2), none] [] h127_2 (some (.ok (x1_127_2, h127_2))) Q2 := hK2
        have ih2 : ∀ (n : Nat) (x1_45 : Int32) (h_45 : e_H), Sx K cX10_board 45 [some (.ref a0), some (.int x1_45), none] [] h_45 (lp_X10_board_45 F a0 n x1_45 h_45) Q2 := by
          intro n
          induction n with
          | zero => intro x1_45 h_45; exact Sx.none
          | succ n ih2 =>
            intro x1_45 h_45
            rw [lp_X10_board_45.eq_2]
            refine S_aload_n (dc_X10_board 25 rfl) rfl ?_
            refine S_getI (dc_X10_board 26 rfl) ho fl_X10_120_8_7 (fun _ _ => rfl) (fun x46 e46 => ?_)
            refine S_if_eq 127 (dc_X10_board 27 rfl) rfl (fun c49 => ?_) (fun c49 => ?_)
            · exact hK2 x1_45 h_45
            · refine S_aload_n (dc_X10_board 28 rfl) rfl ?_
              refine S_iconst_ 1 (dc_X10_board 29 rfl) rfl ?_
              refine S_roI (d := k_d K - 1) (e_callV (b := a0) (As := [.int 1]) (rest := []) ok_X10_isWord rfl (Nat.le_of_ble_eq_true rfl) (dc_X10_board 30 rfl) ho q1674 q1676 (show e_cl[8]? = some (RX10, TX10, 51) from rfl) (e_sel.of qs41) (e_fI_of e46).1 rfl (Nat.le_of_ble_eq_true rfl)) (by omega) (fun _ e => ct_X10_isWord (by omega) e) (fun x54 e54 => ?_)
              refine Sx.regK2 (pc2 := 102) (L2 := fun (s102_3 : Int32) (h102_3 : e_H) => [some (.ref a0), some (.int x1_45), none]) (st2 := fun (s102_3 : Int32) (h102_3 : e_H) => [.int s102_3]) (h2 := fun (s102_3 : Int32) (h102_3 : e_H) => h102_3) ?_ (fun Q3 hK3 => ?_)
              · intro s102_3 h102_3
                show Sx K cX10_board 102 [some (.ref a0), some (.int x1_45), none] [.int s102_3] h102_3 _ _
                refine S_istore_n (L' := [some (.ref a0), some (.int x1_45), some (.int s102_3)]) (dc_X10_board 52 rfl) rfl ?_
                refine S_iload_n (dc_X10_board 53 rfl) rfl ?_
                refine S_if_eq 114 (dc_X10_board 54 rfl) rfl (fun c104 => ?_) (fun c104 => ?_)
                · refine S_iconst_ (-1) (dc_X10_board 58 rfl) rfl ?_
                  refine S_aload_n (dc_X10_board 59 rfl) rfl ?_
                  refine S_getI (dc_X10_board 60 rfl) ho fl_X10_162_8_11 (fun _ _ => rfl) (fun x116 e116 => ?_)
                  refine S_isub (dc_X10_board 61 rfl) ?_
                  refine Sx.err hE2 ?_
                  exact S_iret (dc_X10_board 62 rfl) hT rfl (e_rqI hr)
                · refine S_aload_n (dc_X10_board 55 rfl) rfl ?_
                  refine Sx.ask (fun _ i108 => ?_)
                  refine S_rwI (d := k_d K - 1) (e_callV (b := a0) (As := []) (rest := []) ok_X10_readEnd rfl (Nat.le_of_ble_eq_true rfl) (dc_X10_board 56 rfl) ho q1702 q1704 (show e_cl[8]? = some (RX10, TX10, 51) from rfl) (e_sel.of qs45) (e_is_of i108) rfl (Nat.le_of_ble_eq_true rfl)) (by omega) (fun _ _ e => ct_X10_readEnd (by omega) e) (fun x108 h108 e108 => ?_)
                  refine S_if_ne 121 (dc_X10_board 57 rfl) rfl (fun c111 => ?_) (fun c111 => ?_)
                  · refine S_iincN 1 (L' := fun x121 => [some (.ref a0), some (.int x121), some (.int s102_3)]) (dc_X10_board 63 rfl) rfl rfl (fun _ => rfl) (fun x121 n121 => ?_)
                    refine S_goto 45 (dc_X10_board 64 rfl) rfl ?_
                    refine Sx.cut [true, true, false] ?_
                    exact ih2 x121 h108
                  · refine S_iconst_ (-1) (dc_X10_board 58 rfl) rfl ?_
                    refine S_aload_n (dc_X10_board 59 rfl) rfl ?_
                    refine S_getI (dc_X10_board 60 rfl) ho fl_X10_162_8_11 (fun _ _ => rfl) (fun x116 e116 => ?_)
                    refine S_isub (dc_X10_board 61 rfl) ?_
                    refine Sx.err hE2 ?_
                    exact S_iret (dc_X10_board 62 rfl) hT rfl (e_rqI hr)
              · have hK3 : ∀ (s102_3 : Int32) (h102_3 : e_H), Sx K cX10_board 102 [some (.ref a0), some (.int x1_45), none] [.int s102_3] h102_3 (some (s102_3, h102_3)) Q3 := hK3
                refine S_if_eq 67 (dc_X10_board 31 rfl) rfl (fun c57 => ?_) (fun c57 => ?_)
                · refine S_aload_n (dc_X10_board 35 rfl) rfl ?_
                  refine S_iconst_ 2 (dc_X10_board 36 rfl) rfl ?_
                  refine S_roI (d := k_d K - 1) (e_callV (b := a0) (As := [.int 2]) (rest := []) ok_X10_isWord rfl (Nat.le_of_ble_eq_true rfl) (dc_X10_board 37 rfl) ho q1674 q1676 (show e_cl[8]? = some (RX10, TX10, 51) from rfl) (e_sel.of qs41) (e_fI_of e46).1 rfl (Nat.le_of_ble_eq_true rfl)) (by omega) (fun _ e => ct_X10_isWord (by omega) e) (fun x69 e69 => ?_)
                  refine S_if_eq 82 (dc_X10_board 38 rfl) rfl (fun c72 => ?_) (fun c72 => ?_)
                  · refine S_aload_n (dc_X10_board 42 rfl) rfl ?_
                    refine S_iconst_ 3 (dc_X10_board 43 rfl) rfl ?_
                    refine S_roI (d := k_d K - 1) (e_callV (b := a0) (As := [.int 3]) (rest := []) ok_X10_isWord rfl (Nat.le_of_ble_eq_true rfl) (dc_X10_board 44 rfl) ho q1674 q1676 (show e_cl[8]? = some (RX10, TX10, 51) from rfl) (e_sel.of qs41) (e_fI_of e46).1 rfl (Nat.le_of_ble_eq_true rfl)) (by omega) (fun _ e => ct_X10_isWord (by omega) e) (fun x84 e84 => ?_)
                    refine S_if_eq 97 (dc_X10_board 45 rfl) rfl (fun c87 => ?_) (fun c87 => ?_)
                    · refine S_aload_n (dc_X10_board 49 rfl) rfl ?_
                      refine S_iconst_ 1 (dc_X10_board 50 rfl) rfl ?_
                      refine S_rwI (d := k_d K - 1) (e_callV (b := a0) (As := [.int 1]) (rest := []) ok_X10_bad rfl (Nat.le_of_ble_eq_true rfl) (dc_X10_board 51 rfl) ho q1687 q1689 (show e_cl[8]? = some (RX10, TX10, 51) from rfl) (e_sel.of qs42) (e_fI_of e46).1 rfl (Nat.le_of_ble_eq_true rfl)) (by omega) (fun _ _ e => ct_X10_bad (by omega) e) (fun x99 h99 e99 => ?_)
                      exact hK3 x99 h99
                    · refine S_aload_n (dc_X10_board 46 rfl) rfl ?_
                      refine S_rwI (d := k_d K - 1) (e_callV (b := a0) (As := []) (rest := []) ok_X10_readBand rfl (Nat.le_of_ble_eq_true rfl) (dc_X10_board 47 rfl) ho q1718 q1720 (show e_cl[8]? = some (RX10, TX10, 51) from rfl) (e_sel.of qs49) (e_fI_of e46).1 rfl (Nat.le_of_ble_eq_true rfl)) (by omega) (fun _ _ e => ct_X10_readBand (by omega) e) (fun x91 h91 e91 => ?_)
                      refine S_goto 102 (dc_X10_board 48 rfl) rfl ?_
                      exact hK3 x91 h91
                  · refine S_aload_n (dc_X10_board 39 rfl) rfl ?_
                    refine S_rwI (d := k_d K - 1) (e_callV (b := a0) (As := []) (rest := []) ok_X10_readOut rfl (Nat.le_of_ble_eq_true rfl) (dc_X10_board 40 rfl) ho q1714 q1716 (show e_cl[8]? = some (RX10, TX10, 51) from rfl) (e_sel.of qs48) (e_fI_of e46).1 rfl (Nat.le_of_ble_eq_true rfl)) (by omega) (fun _ _ e => ct_X10_readOut (by omega) e) (fun x76 h76 e76 => ?_)
                    refine S_goto 102 (dc_X10_board 41 rfl) rfl ?_
                    exact hK3 x76 h76
                · refine S_aload_n (dc_X10_board 32 rfl) rfl ?_
                  refine S_rwI (d := k_d K - 1) (e_callV (b := a0) (As := []) (rest := []) ok_X10_readBell rfl (Nat.le_of_ble_eq_true rfl) (dc_X10_board 33 rfl) ho q1710 q1712 (show e_cl[8]? = some (RX10, TX10, 51) from rfl) (e_sel.of qs47) (e_fI_of e46).1 rfl (Nat.le_of_ble_eq_true rfl)) (by omega) (fun _ _ e => ct_X10_readBell (by omega) e) (fun x61 h61 e61 => ?_)
                  refine S_goto 102 (dc_X10_board 34 rfl) rfl ?_
                  exact hK3 x61 h61
        exact ih2 F 1 h30
    · refine S_iconst_ (-1) (dc_X10_board 18 rfl) rfl ?_
      refine S_aload_n (dc_X10_board 19 rfl) rfl ?_
      refine S_getI (dc_X10_board 20 rfl) ho fl_X10_162_8_11 (fun _ _ => rfl) (fun x38 e38 => ?_)
      refine S_isub (dc_X10_board 21 rfl) ?_
      exact S_iret (dc_X10_board 22 rfl) hT rfl (e_rqI hr)
  · have hK1 : ∀ (h29_1 : e_H), Sx K cX10_board 29 [some (.ref a0), none, none] [] h29_1 (some h29_1) Q1 := hK1
    have ih1 : ∀ (n : Nat) (x1_9 : Int32) (h_9 : e_H), Sx K cX10_board 9 [some (.ref a0), some (.int x1_9), none] [] h_9 (lp_X10_board_9 F a0 n x1_9 h_9) Q1 := by
      intro n
      induction n with
      | zero => intro x1_9 h_9; exact Sx.none
      | succ n ih1 =>
        intro x1_9 h_9
        rw [lp_X10_board_9.eq_2]
        refine S_iload_n (dc_X10_board 5 rfl) rfl ?_
        refine S_sipush_ 241 (dc_X10_board 6 rfl) rfl ?_
        refine S_icmp_ge 29 (dc_X10_board 7 rfl) rfl (fun c13 => ?_) (fun c13 => ?_)
        · refine Sx.cut [true, false, true] ?_
          exact hK1 h_9
        · refine S_aload_n (dc_X10_board 8 rfl) rfl ?_
          refine S_getA (dc_X10_board 9 rfl) ho fl_X10_16_8_16 (fun _ _ => rfl) (fun x17 e17 => ?_)
          refine S_iload_n (dc_X10_board 10 rfl) rfl ?_
          refine S_iconst_ 0 (dc_X10_board 11 rfl) rfl ?_
          refine S_iast (dc_X10_board 12 rfl) (fun h22 e22 => ?_)
          refine S_iincN 1 (L' := fun x23 => [some (.ref a0), some (.int x23), none]) (dc_X10_board 13 rfl) rfl rfl (fun _ => rfl) (fun x23 n23 => ?_)
          refine S_goto 9 (dc_X10_board 14 rfl) rfl ?_
          exact ih1 x23 h22
    exact ih1 F 0 h4
abbrev cX10_fault : ByteArray := prog_18_method_47_code
def yX10_fault : MethodName := ⟨"PegBandsModel", "fault", "()I"⟩
def tb_X10_fault : List (Nat × Instr × Nat) := [(0, .aload_n 0, 1), (1, .iconst 0, 1), (2, .putfield 94, 3), (5, .aload_n 0, 1), (6, .getfield 159, 3), (9, .ireturn, 1)]
theorem tk_X10_fault : ∀ q ∈ tb_X10_fault, decode cX10_fault q.1 = .ok q.2 := by decide +kernel
theorem dc_X10_fault (k : Nat) {pc n : Nat} {i : Instr} (h : tb_X10_fault[k]? = some (pc, i, n)) : decode cX10_fault pc = .ok (i, n) := tk_X10_fault (pc, i, n) (List.mem_of_getElem? h)
abbrev mX10_fault : e_M := (yX10_fault, cX10_fault, 1, some (.int), [])
theorem ok_X10_fault : e_mok mX10_fault 0 := ⟨q1774, q119, by decide +kernel, fun sig h => by cases h; rfl⟩
def f_X10_fault (h : e_H) (a0 : Nat) : Option (Int32 × e_H) :=
  Option.bind (e_gI h a0 8 0 0) (fun h2 =>
  Option.bind (e_fI h2 a0 8 10) (fun x6 =>
  some (x6, h2)))
set_option maxHeartbeats 4000000 in
set_option maxRecDepth 100000 in
theorem ct_X10_fault {l : Launch} {D : e_D} {B : Heap} {d : Nat} {h : e_H} {a0 : Nat} {v : Int32} {h1 : e_H} (hd : 1 ≤ d) (e : f_X10_fault h a0 = some (v, h1)) : e_Run l D B d mX10_fault [.ref a0] h (.ok (some (.int v)), h1) := by
  refine e_start [some (.ref a0)] (by decide) rfl rfl rfl (Nat.le_of_ble_eq_true rfl) (fun K hl0 hD0 hB0 hM hd0 hr => ?_)
  subst hl0 hD0 hB0 hd0
  have ho : (k_M K).1.cls = "PegBandsModel" := by rw [hM]; rfl
  have hT : (k_M K).2.2.2.1 = some (.int) := by rw [hM]
  refine (show Sx K cX10_fault 0 [some (.ref a0)] [] h (f_X10_fault h a0) (fun w => w = (v, h1)) from ?_) _ e rfl
  clear e
  unfold f_X10_fault
  refine S_aload_n (dc_X10_fault 0 rfl) rfl ?_
  refine S_iconst_ 0 (dc_X10_fault 1 rfl) rfl ?_
  refine S_putI (dc_X10_fault 2 rfl) ho fl_X10_94_8_0 (fun _ _ => rfl) (Or.inl rfl) rfl rfl (fun h2 e2 => ?_)
  refine S_aload_n (dc_X10_fault 3 rfl) rfl ?_
  refine S_getI (dc_X10_fault 4 rfl) ho fl_X10_159_8_10 (fun _ _ => rfl) (fun x6 e6 => ?_)
  exact S_iret (dc_X10_fault 5 rfl) hT rfl (e_rqI hr)
abbrev cX10_why : ByteArray := prog_18_method_48_code
def yX10_why : MethodName := ⟨"PegBandsModel", "why", "()I"⟩
def tb_X10_why : List (Nat × Instr × Nat) := [(0, .aload_n 0, 1), (1, .iconst 0, 1), (2, .putfield 94, 3), (5, .aload_n 0, 1), (6, .getfield 249, 3), (9, .ireturn, 1)]
theorem tk_X10_why : ∀ q ∈ tb_X10_why, decode cX10_why q.1 = .ok q.2 := by decide +kernel
theorem dc_X10_why (k : Nat) {pc n : Nat} {i : Instr} (h : tb_X10_why[k]? = some (pc, i, n)) : decode cX10_why pc = .ok (i, n) := tk_X10_why (pc, i, n) (List.mem_of_getElem? h)
abbrev mX10_why : e_M := (yX10_why, cX10_why, 1, some (.int), [])
theorem ok_X10_why : e_mok mX10_why 0 := ⟨q1778, q119, by decide +kernel, fun sig h => by cases h; rfl⟩
def f_X10_why (h : e_H) (a0 : Nat) : Option (Int32 × e_H) :=
  Option.bind (e_gI h a0 8 0 0) (fun h2 =>
  Option.bind (e_fI h2 a0 8 12) (fun x6 =>
  some (x6, h2)))
set_option maxHeartbeats 4000000 in
set_option maxRecDepth 100000 in
theorem ct_X10_why {l : Launch} {D : e_D} {B : Heap} {d : Nat} {h : e_H} {a0 : Nat} {v : Int32} {h1 : e_H} (hd : 1 ≤ d) (e : f_X10_why h a0 = some (v, h1)) : e_Run l D B d mX10_why [.ref a0] h (.ok (some (.int v)), h1) := by
  refine e_start [some (.ref a0)] (by decide) rfl rfl rfl (Nat.le_of_ble_eq_true rfl) (fun K hl0 hD0 hB0 hM hd0 hr => ?_)
  subst hl0 hD0 hB0 hd0
  have ho : (k_M K).1.cls = "PegBandsModel" := by rw [hM]; rfl
  have hT : (k_M K).2.2.2.1 = some (.int) := by rw [hM]
  refine (show Sx K cX10_why 0 [some (.ref a0)] [] h (f_X10_why h a0) (fun w => w = (v, h1)) from ?_) _ e rfl
  clear e
  unfold f_X10_why
  refine S_aload_n (dc_X10_why 0 rfl) rfl ?_
  refine S_iconst_ 0 (dc_X10_why 1 rfl) rfl ?_
  refine S_putI (dc_X10_why 2 rfl) ho fl_X10_94_8_0 (fun _ _ => rfl) (Or.inl rfl) rfl rfl (fun h2 e2 => ?_)
  refine S_aload_n (dc_X10_why 3 rfl) rfl ?_
  refine S_getI (dc_X10_why 4 rfl) ho fl_X10_249_8_12 (fun _ _ => rfl) (fun x6 e6 => ?_)
  exact S_iret (dc_X10_why 5 rfl) hT rfl (e_rqI hr)
abbrev cX10_isAt : ByteArray := prog_18_method_54_code
def yX10_isAt : MethodName := ⟨"PegBandsModel", "isAt", "(I)Z"⟩
def tb_X10_isAt : List (Nat × Instr × Nat) := [(0, .iload_n 1, 1), (1, .ifCond .lt 25, 3), (4, .aload_n 0, 1), (5, .getfield 13, 3), (8, .iload_n 1, 1), (9, .bipush 10, 2), (11, .irem, 1), (12, .iload_n 1, 1), (13, .bipush 10, 2), (15, .idiv, 1), (16, .invokestatic 218, 3), (19, .ifCond .eq 7, 3), (22, .iconst 1, 1), (23, .goto 4, 3), (26, .iconst 0, 1), (27, .ireturn, 1)]
theorem tk_X10_isAt : ∀ q ∈ tb_X10_isAt, decode cX10_isAt q.1 = .ok q.2 := by decide +kernel
theorem dc_X10_isAt (k : Nat) {pc n : Nat} {i : Instr} (h : tb_X10_isAt[k]? = some (pc, i, n)) : decode cX10_isAt pc = .ok (i, n) := tk_X10_isAt (pc, i, n) (List.mem_of_getElem? h)
abbrev mX10_isAt : e_M := (yX10_isAt, cX10_isAt, 2, some (.boolean), [])
theorem ok_X10_isAt : e_mok mX10_isAt 1 := ⟨q1786, q119, by decide +kernel, fun sig h => by cases h; rfl⟩
def f_X10_isAt (h : e_H) (a0 : Nat) (a1 : Int32) : Option Int32 :=
  if a1 < 0 then
    some 0
  else
    Option.bind (e_fA h a0 8 15) (fun x5 =>
    Option.bind (f_X10_isPlace h x5 (a1 - a1 / 10 * 10) (a1 / 10)) (fun x16 =>
    if x16 = 0 then
      some 0
    else
      some 1))
set_option maxHeartbeats 4000000 in
set_option maxRecDepth 100000 in
theorem ct_X10_isAt {l : Launch} {D : e_D} {B : Heap} {d : Nat} {h : e_H} {a0 : Nat} {a1 : Int32} {v : Int32} (hd : 2 ≤ d) (e : f_X10_isAt h a0 a1 = some v) : e_Run l D B d mX10_isAt [.ref a0, .int a1] h (.ok (some (.int v)), h) := by
  refine e_start [some (.ref a0), some (.int a1)] (by decide) rfl rfl rfl (Nat.le_of_ble_eq_true rfl) (fun K hl0 hD0 hB0 hM hd0 hr => ?_)
  subst hl0 hD0 hB0 hd0
  have ho : (k_M K).1.cls = "PegBandsModel" := by rw [hM]; rfl
  have hT : (k_M K).2.2.2.1 = some (.boolean) := by rw [hM]
  refine (show Sx K cX10_isAt 0 [some (.ref a0), some (.int a1)] [] h (f_X10_isAt h a0 a1) (fun w => w = v) from ?_) _ e rfl
  clear e
  unfold f_X10_isAt
  refine S_iload_n (dc_X10_isAt 0 rfl) rfl ?_
  refine S_if_lt 26 (dc_X10_isAt 1 rfl) rfl (fun c1 => ?_) (fun c1 => ?_)
  · refine S_iconst_ 0 (dc_X10_isAt 14 rfl) rfl ?_
    exact S_iret (dc_X10_isAt 15 rfl) hT rfl (fun q => by cases q; exact hr)
  · refine S_aload_n (dc_X10_isAt 2 rfl) rfl ?_
    refine S_getA (dc_X10_isAt 3 rfl) ho fl_X10_13_8_15 (fun _ _ => rfl) (fun x5 e5 => ?_)
    refine S_iload_n (dc_X10_isAt 4 rfl) rfl ?_
    refine S_bipush_ 10 (dc_X10_isAt 5 rfl) rfl ?_
    refine S_irem (dc_X10_isAt 6 rfl) (by decide) ?_
    refine S_iload_n (dc_X10_isAt 7 rfl) rfl ?_
    refine S_bipush_ 10 (dc_X10_isAt 8 rfl) rfl ?_
    refine S_idiv (dc_X10_isAt 9 rfl) (by decide) ?_
    refine S_roI (d := k_d K - 1) (e_callS (As := [.ref x5, .int (a1 - a1 / 10 * 10), .int (a1 / 10)]) (rest := []) ok_X10_isPlace rfl (Nat.le_of_ble_eq_true rfl) (dc_X10_isAt 10 rfl) ho q1744 q1745 rfl (Nat.le_of_ble_eq_true rfl)) (by omega) (fun _ e => ct_X10_isPlace (by omega) e) (fun x16 e16 => ?_)
    refine S_if_eq 26 (dc_X10_isAt 11 rfl) rfl (fun c19 => ?_) (fun c19 => ?_)
    · refine S_iconst_ 0 (dc_X10_isAt 14 rfl) rfl ?_
      exact S_iret (dc_X10_isAt 15 rfl) hT rfl (fun q => by cases q; exact hr)
    · refine S_iconst_ 1 (dc_X10_isAt 12 rfl) rfl ?_
      refine S_goto 27 (dc_X10_isAt 13 rfl) rfl ?_
      exact S_iret (dc_X10_isAt 15 rfl) hT rfl (fun q => by cases q; exact hr)
abbrev cX10_peg : ByteArray := prog_18_method_55_code
def yX10_peg : MethodName := ⟨"PegBandsModel", "peg", "(I)I"⟩
def tb_X10_peg : List (Nat × Instr × Nat) := [(0, .aload_n 0, 1), (1, .iconst 0, 1), (2, .putfield 94, 3), (5, .aload_n 0, 1), (6, .iload_n 1, 1), (7, .invokevirtual 282, 3), (10, .ifCond .eq 29, 3), (13, .aload_n 0, 1), (14, .getfield 13, 3), (17, .iload_n 1, 1), (18, .bipush 10, 2), (20, .irem, 1), (21, .iload_n 1, 1), (22, .bipush 10, 2), (24, .idiv, 1), (25, .invokestatic 226, 3), (28, .ifCond .eq 7, 3), (31, .iconst 1, 1), (32, .goto 8, 3), (35, .iconst 0, 1), (36, .goto 4, 3), (39, .iconst (-1), 1), (40, .ireturn, 1)]
theorem tk_X10_peg : ∀ q ∈ tb_X10_peg, decode cX10_peg q.1 = .ok q.2 := by decide +kernel
theorem dc_X10_peg (k : Nat) {pc n : Nat} {i : Instr} (h : tb_X10_peg[k]? = some (pc, i, n)) : decode cX10_peg pc = .ok (i, n) := tk_X10_peg (pc, i, n) (List.mem_of_getElem? h)
abbrev mX10_peg : e_M := (yX10_peg, cX10_peg, 2, some (.int), [])
theorem ok_X10_peg : e_mok mX10_peg 1 := ⟨q1782, q119, by decide +kernel, fun sig h => by cases h; rfl⟩
def f_X10_peg (h : e_H) (a0 : Nat) (a1 : Int32) : Option (Int32 × e_H) :=
  Option.bind (e_gI h a0 8 0 0) (fun h2 =>
  Option.bind (e_is h2 a0 8) (fun _ =>
  Option.bind (f_X10_isAt h2 a0 a1) (fun x7 =>
  if x7 = 0 then
    some ((-1), h2)
  else
    Option.bind (e_fA h2 a0 8 15) (fun x14 =>
    Option.bind (f_X10_isPeg h2 x14 (a1 - a1 / 10 * 10) (a1 / 10)) (fun x25 =>
    if x25 = 0 then
      some (0, h2)
    else
      some (1, h2))))))
set_option maxHeartbeats 4000000 in
set_option maxRecDepth 100000 in
theorem ct_X10_peg {l : Launch} {D : e_D} {B : Heap} {d : Nat} {h : e_H} {a0 : Nat} {a1 : Int32} {v : Int32} {h1 : e_H} (hd : 3 ≤ d) (e : f_X10_peg h a0 a1 = some (v, h1)) : e_Run l D B d mX10_peg [.ref a0, .int a1] h (.ok (some (.int v)), h1) := by
  refine e_start [some (.ref a0), some (.int a1)] (by decide) rfl rfl rfl (Nat.le_of_ble_eq_true rfl) (fun K hl0 hD0 hB0 hM hd0 hr => ?_)
  subst hl0 hD0 hB0 hd0
  have ho : (k_M K).1.cls = "PegBandsModel" := by rw [hM]; rfl
  have hT : (k_M K).2.2.2.1 = some (.int) := by rw [hM]
  refine (show Sx K cX10_peg 0 [some (.ref a0), some (.int a1)] [] h (f_X10_peg h a0 a1) (fun w => w = (v, h1)) from ?_) _ e rfl
  clear e
  unfold f_X10_peg
  refine S_aload_n (dc_X10_peg 0 rfl) rfl ?_
  refine S_iconst_ 0 (dc_X10_peg 1 rfl) rfl ?_
  refine S_putI (dc_X10_peg 2 rfl) ho fl_X10_94_8_0 (fun _ _ => rfl) (Or.inl rfl) rfl rfl (fun h2 e2 => ?_)
  refine S_aload_n (dc_X10_peg 3 rfl) rfl ?_
  refine S_iload_n (dc_X10_peg 4 rfl) rfl ?_
  refine Sx.ask (fun _ i7 => ?_)
  refine S_roI (d := k_d K - 1) (e_callV (b := a0) (As := [.int a1]) (rest := []) ok_X10_isAt rfl (Nat.le_of_ble_eq_true rfl) (dc_X10_peg 5 rfl) ho q1783 q1785 (show e_cl[8]? = some (RX10, TX10, 51) from rfl) (e_sel.of qs51) (e_is_of i7) rfl (Nat.le_of_ble_eq_true rfl)) (by omega) (fun _ e => ct_X10_isAt (by omega) e) (fun x7 e7 => ?_)
  refine S_if_eq 39 (dc_X10_peg 6 rfl) rfl (fun c10 => ?_) (fun c10 => ?_)
  · refine S_iconst_ (-1) (dc_X10_peg 21 rfl) rfl ?_
    exact S_iret (dc_X10_peg 22 rfl) hT rfl (e_rqI hr)
  · refine S_aload_n (dc_X10_peg 7 rfl) rfl ?_
    refine S_getA (dc_X10_peg 8 rfl) ho fl_X10_13_8_15 (fun _ _ => rfl) (fun x14 e14 => ?_)
    refine S_iload_n (dc_X10_peg 9 rfl) rfl ?_
    refine S_bipush_ 10 (dc_X10_peg 10 rfl) rfl ?_
    refine S_irem (dc_X10_peg 11 rfl) (by decide) ?_
    refine S_iload_n (dc_X10_peg 12 rfl) rfl ?_
    refine S_bipush_ 10 (dc_X10_peg 13 rfl) rfl ?_
    refine S_idiv (dc_X10_peg 14 rfl) (by decide) ?_
    refine S_roI (d := k_d K - 1) (e_callS (As := [.ref x14, .int (a1 - a1 / 10 * 10), .int (a1 / 10)]) (rest := []) ok_X10_isPeg rfl (Nat.le_of_ble_eq_true rfl) (dc_X10_peg 15 rfl) ho q1741 q1742 rfl (Nat.le_of_ble_eq_true rfl)) (by omega) (fun _ e => ct_X10_isPeg (by omega) e) (fun x25 e25 => ?_)
    refine S_if_eq 35 (dc_X10_peg 16 rfl) rfl (fun c28 => ?_) (fun c28 => ?_)
    · refine S_iconst_ 0 (dc_X10_peg 19 rfl) rfl ?_
      refine S_goto 40 (dc_X10_peg 20 rfl) rfl ?_
      exact S_iret (dc_X10_peg 22 rfl) hT rfl (e_rqI hr)
    · refine S_iconst_ 1 (dc_X10_peg 17 rfl) rfl ?_
      refine S_goto 40 (dc_X10_peg 18 rfl) rfl ?_
      exact S_iret (dc_X10_peg 22 rfl) hT rfl (e_rqI hr)
abbrev cX10_bands : ByteArray := prog_18_method_49_code
def yX10_bands : MethodName := ⟨"PegBandsModel", "bands", "()I"⟩
def tb_X10_bands : List (Nat × Instr × Nat) := [(0, .aload_n 0, 1), (1, .getfield 13, 3), (4, .iconst 4, 1), (5, .iaload, 1), (6, .ireturn, 1)]
theorem tk_X10_bands : ∀ q ∈ tb_X10_bands, decode cX10_bands q.1 = .ok q.2 := by decide +kernel
theorem dc_X10_bands (k : Nat) {pc n : Nat} {i : Instr} (h : tb_X10_bands[k]? = some (pc, i, n)) : decode cX10_bands pc = .ok (i, n) := tk_X10_bands (pc, i, n) (List.mem_of_getElem? h)
abbrev mX10_bands : e_M := (yX10_bands, cX10_bands, 1, some (.int), [])
theorem ok_X10_bands : e_mok mX10_bands 0 := ⟨q1798, q119, by decide +kernel, fun sig h => by cases h; rfl⟩
def f_X10_bands (h : e_H) (a0 : Nat) : Option Int32 :=
  Option.bind (e_fA h a0 8 15) (fun x1 =>
  Option.bind (e_aI h x1 0 4) (fun x5 =>
  some x5))
set_option maxHeartbeats 4000000 in
set_option maxRecDepth 100000 in
theorem ct_X10_bands {l : Launch} {D : e_D} {B : Heap} {d : Nat} {h : e_H} {a0 : Nat} {v : Int32} (hd : 1 ≤ d) (e : f_X10_bands h a0 = some v) : e_Run l D B d mX10_bands [.ref a0] h (.ok (some (.int v)), h) := by
  refine e_start [some (.ref a0)] (by decide) rfl rfl rfl (Nat.le_of_ble_eq_true rfl) (fun K hl0 hD0 hB0 hM hd0 hr => ?_)
  subst hl0 hD0 hB0 hd0
  have ho : (k_M K).1.cls = "PegBandsModel" := by rw [hM]; rfl
  have hT : (k_M K).2.2.2.1 = some (.int) := by rw [hM]
  refine (show Sx K cX10_bands 0 [some (.ref a0)] [] h (f_X10_bands h a0) (fun w => w = v) from ?_) _ e rfl
  clear e
  unfold f_X10_bands
  refine S_aload_n (dc_X10_bands 0 rfl) rfl ?_
  refine S_getA (dc_X10_bands 1 rfl) ho fl_X10_13_8_15 (fun _ _ => rfl) (fun x1 e1 => ?_)
  refine S_iconst_ 4 (dc_X10_bands 2 rfl) rfl ?_
  refine S_iald (dc_X10_bands 3 rfl) (fun x5 e5 => ?_)
  exact S_iret (dc_X10_bands 4 rfl) hT rfl (fun q => by cases q; exact hr)
abbrev cX10_isBand : ByteArray := prog_18_method_50_code
def yX10_isBand : MethodName := ⟨"PegBandsModel", "isBand", "(I)Z"⟩
def tb_X10_isBand : List (Nat × Instr × Nat) := [(0, .iload_n 1, 1), (1, .ifCond .lt 15, 3), (4, .iload_n 1, 1), (5, .aload_n 0, 1), (6, .invokevirtual 276, 3), (9, .if_icmp .ge 7, 3), (12, .iconst 1, 1), (13, .goto 4, 3), (16, .iconst 0, 1), (17, .ireturn, 1)]
theorem tk_X10_isBand : ∀ q ∈ tb_X10_isBand, decode cX10_isBand q.1 = .ok q.2 := by decide +kernel
theorem dc_X10_isBand (k : Nat) {pc n : Nat} {i : Instr} (h : tb_X10_isBand[k]? = some (pc, i, n)) : decode cX10_isBand pc = .ok (i, n) := tk_X10_isBand (pc, i, n) (List.mem_of_getElem? h)
abbrev mX10_isBand : e_M := (yX10_isBand, cX10_isBand, 2, some (.boolean), [])
theorem ok_X10_isBand : e_mok mX10_isBand 1 := ⟨q1794, q119, by decide +kernel, fun sig h => by cases h; rfl⟩
def f_X10_isBand (h : e_H) (a0 : Nat) (a1 : Int32) : Option Int32 :=
  if a1 < 0 then
    some 0
  else
    Option.bind (e_is h a0 8) (fun _ =>
    Option.bind (f_X10_bands h a0) (fun x6 =>
    if x6 ≤ a1 then
      some 0
    else
      some 1))
set_option maxHeartbeats 4000000 in
set_option maxRecDepth 100000 in
theorem ct_X10_isBand {l : Launch} {D : e_D} {B : Heap} {d : Nat} {h : e_H} {a0 : Nat} {a1 : Int32} {v : Int32} (hd : 2 ≤ d) (e : f_X10_isBand h a0 a1 = some v) : e_Run l D B d mX10_isBand [.ref a0, .int a1] h (.ok (some (.int v)), h) := by
  refine e_start [some (.ref a0), some (.int a1)] (by decide) rfl rfl rfl (Nat.le_of_ble_eq_true rfl) (fun K hl0 hD0 hB0 hM hd0 hr => ?_)
  subst hl0 hD0 hB0 hd0
  have ho : (k_M K).1.cls = "PegBandsModel" := by rw [hM]; rfl
  have hT : (k_M K).2.2.2.1 = some (.boolean) := by rw [hM]
  refine (show Sx K cX10_isBand 0 [some (.ref a0), some (.int a1)] [] h (f_X10_isBand h a0 a1) (fun w => w = v) from ?_) _ e rfl
  clear e
  unfold f_X10_isBand
  refine S_iload_n (dc_X10_isBand 0 rfl) rfl ?_
  refine S_if_lt 16 (dc_X10_isBand 1 rfl) rfl (fun c1 => ?_) (fun c1 => ?_)
  · refine S_iconst_ 0 (dc_X10_isBand 8 rfl) rfl ?_
    exact S_iret (dc_X10_isBand 9 rfl) hT rfl (fun q => by cases q; exact hr)
  · refine S_iload_n (dc_X10_isBand 2 rfl) rfl ?_
    refine S_aload_n (dc_X10_isBand 3 rfl) rfl ?_
    refine Sx.ask (fun _ i6 => ?_)
    refine S_roI (d := k_d K - 1) (e_callV (b := a0) (As := []) (rest := [.int a1]) ok_X10_bands rfl (Nat.le_of_ble_eq_true rfl) (dc_X10_isBand 4 rfl) ho q1795 q1797 (show e_cl[8]? = some (RX10, TX10, 51) from rfl) (e_sel.of qs53) (e_is_of i6) rfl (Nat.le_of_ble_eq_true rfl)) (by omega) (fun _ e => ct_X10_bands (by omega) e) (fun x6 e6 => ?_)
    refine S_icmp_ge 16 (dc_X10_isBand 5 rfl) rfl (fun c9 => ?_) (fun c9 => ?_)
    · refine S_iconst_ 0 (dc_X10_isBand 8 rfl) rfl ?_
      exact S_iret (dc_X10_isBand 9 rfl) hT rfl (fun q => by cases q; exact hr)
    · refine S_iconst_ 1 (dc_X10_isBand 6 rfl) rfl ?_
      refine S_goto 17 (dc_X10_isBand 7 rfl) rfl ?_
      exact S_iret (dc_X10_isBand 9 rfl) hT rfl (fun q => by cases q; exact hr)
abbrev cX10_refuse : ByteArray := prog_18_method_3_code
def yX10_refuse : MethodName := ⟨"PegBandsModel", "refuse", "()I"⟩
def tb_X10_refuse : List (Nat × Instr × Nat) := [(0, .aload_n 0, 1), (1, .iconst 1, 1), (2, .putfield 94, 3), (5, .iconst 0, 1), (6, .ireturn, 1)]
theorem tk_X10_refuse : ∀ q ∈ tb_X10_refuse, decode cX10_refuse q.1 = .ok q.2 := by decide +kernel
theorem dc_X10_refuse (k : Nat) {pc n : Nat} {i : Instr} (h : tb_X10_refuse[k]? = some (pc, i, n)) : decode cX10_refuse pc = .ok (i, n) := tk_X10_refuse (pc, i, n) (List.mem_of_getElem? h)
abbrev mX10_refuse : e_M := (yX10_refuse, cX10_refuse, 1, some (.int), [])
theorem ok_X10_refuse : e_mok mX10_refuse 0 := ⟨q1802, q119, by decide +kernel, fun sig h => by cases h; rfl⟩
def f_X10_refuse (h : e_H) (a0 : Nat) : Option (Int32 × e_H) :=
  Option.bind (e_gI h a0 8 0 1) (fun h2 =>
  some (0, h2))
set_option maxHeartbeats 4000000 in
set_option maxRecDepth 100000 in
theorem ct_X10_refuse {l : Launch} {D : e_D} {B : Heap} {d : Nat} {h : e_H} {a0 : Nat} {v : Int32} {h1 : e_H} (hd : 1 ≤ d) (e : f_X10_refuse h a0 = some (v, h1)) : e_Run l D B d mX10_refuse [.ref a0] h (.ok (some (.int v)), h1) := by
  refine e_start [some (.ref a0)] (by decide) rfl rfl rfl (Nat.le_of_ble_eq_true rfl) (fun K hl0 hD0 hB0 hM hd0 hr => ?_)
  subst hl0 hD0 hB0 hd0
  have ho : (k_M K).1.cls = "PegBandsModel" := by rw [hM]; rfl
  have hT : (k_M K).2.2.2.1 = some (.int) := by rw [hM]
  refine (show Sx K cX10_refuse 0 [some (.ref a0)] [] h (f_X10_refuse h a0) (fun w => w = (v, h1)) from ?_) _ e rfl
  clear e
  unfold f_X10_refuse
  refine S_aload_n (dc_X10_refuse 0 rfl) rfl ?_
  refine S_iconst_ 1 (dc_X10_refuse 1 rfl) rfl ?_
  refine S_putI (dc_X10_refuse 2 rfl) ho fl_X10_94_8_0 (fun _ _ => rfl) (Or.inl rfl) rfl rfl (fun h2 e2 => ?_)
  refine S_iconst_ 0 (dc_X10_refuse 3 rfl) rfl ?_
  exact S_iret (dc_X10_refuse 4 rfl) hT rfl (e_rqI hr)
abbrev cX10_corners : ByteArray := prog_18_method_51_code
def yX10_corners : MethodName := ⟨"PegBandsModel", "corners", "(I)I"⟩
def tb_X10_corners : List (Nat × Instr × Nat) := [(0, .aload_n 0, 1), (1, .getfield 13, 3), (4, .iload_n 1, 1), (5, .invokestatic 203, 3), (8, .ireturn, 1)]
theorem tk_X10_corners : ∀ q ∈ tb_X10_corners, decode cX10_corners q.1 = .ok q.2 := by decide +kernel
theorem dc_X10_corners (k : Nat) {pc n : Nat} {i : Instr} (h : tb_X10_corners[k]? = some (pc, i, n)) : decode cX10_corners pc = .ok (i, n) := tk_X10_corners (pc, i, n) (List.mem_of_getElem? h)
abbrev mX10_corners : e_M := (yX10_corners, cX10_corners, 2, some (.int), [])
theorem ok_X10_corners : e_mok mX10_corners 1 := ⟨q1806, q119, by decide +kernel, fun sig h => by cases h; rfl⟩
def f_X10_corners (h : e_H) (a0 : Nat) (a1 : Int32) : Option Int32 :=
  Option.bind (e_fA h a0 8 15) (fun x1 =>
  Option.bind (f_X10_cornersOf h x1 a1) (fun x5 =>
  some x5))
set_option maxHeartbeats 4000000 in
set_option maxRecDepth 100000 in
theorem ct_X10_corners {l : Launch} {D : e_D} {B : Heap} {d : Nat} {h : e_H} {a0 : Nat} {a1 : Int32} {v : Int32} (hd : 2 ≤ d) (e : f_X10_corners h a0 a1 = some v) : e_Run l D B d mX10_corners [.ref a0, .int a1] h (.ok (some (.int v)), h) := by
  refine e_start [some (.ref a0), some (.int a1)] (by decide) rfl rfl rfl (Nat.le_of_ble_eq_true rfl) (fun K hl0 hD0 hB0 hM hd0 hr => ?_)
  subst hl0 hD0 hB0 hd0
  have ho : (k_M K).1.cls = "PegBandsModel" := by rw [hM]; rfl
  have hT : (k_M K).2.2.2.1 = some (.int) := by rw [hM]
  refine (show Sx K cX10_corners 0 [some (.ref a0), some (.int a1)] [] h (f_X10_corners h a0 a1) (fun w => w = v) from ?_) _ e rfl
  clear e
  unfold f_X10_corners
  refine S_aload_n (dc_X10_corners 0 rfl) rfl ?_
  refine S_getA (dc_X10_corners 1 rfl) ho fl_X10_13_8_15 (fun _ _ => rfl) (fun x1 e1 => ?_)
  refine S_iload_n (dc_X10_corners 2 rfl) rfl ?_
  refine S_roI (d := k_d K - 1) (e_callS (As := [.ref x1, .int a1]) (rest := []) ok_X10_cornersOf rfl (Nat.le_of_ble_eq_true rfl) (dc_X10_corners 3 rfl) ho q1732 q1733 rfl (Nat.le_of_ble_eq_true rfl)) (by omega) (fun _ e => ct_X10_cornersOf (by omega) e) (fun x5 e5 => ?_)
  exact S_iret (dc_X10_corners 4 rfl) hT rfl (fun q => by cases q; exact hr)
abbrev cX10_x : ByteArray := prog_18_method_52_code
def yX10_x : MethodName := ⟨"PegBandsModel", "x", "(II)I"⟩
def tb_X10_x : List (Nat × Instr × Nat) := [(0, .aload_n 0, 1), (1, .getfield 13, 3), (4, .iload_n 1, 1), (5, .iload_n 2, 1), (6, .aload_n 0, 1), (7, .iload_n 1, 1), (8, .invokevirtual 279, 3), (11, .irem, 1), (12, .invokestatic 207, 3), (15, .ireturn, 1)]
theorem tk_X10_x : ∀ q ∈ tb_X10_x, decode cX10_x q.1 = .ok q.2 := by decide +kernel
theorem dc_X10_x (k : Nat) {pc n : Nat} {i : Instr} (h : tb_X10_x[k]? = some (pc, i, n)) : decode cX10_x pc = .ok (i, n) := tk_X10_x (pc, i, n) (List.mem_of_getElem? h)
abbrev mX10_x : e_M := (yX10_x, cX10_x, 3, some (.int), [])
theorem ok_X10_x : e_mok mX10_x 2 := ⟨q1818, q119, by decide +kernel, fun sig h => by cases h; rfl⟩
def f_X10_x (h : e_H) (a0 : Nat) (a1 : Int32) (a2 : Int32) : Option Int32 :=
  Option.bind (e_fA h a0 8 15) (fun x1 =>
  Option.bind (f_X10_corners h a0 a1) (fun x8 =>
  if x8 = 0 then none else
  Option.bind (f_X10_xOf h x1 a1 (a2 - a2 / x8 * x8)) (fun x12 =>
  some x12)))
set_option maxHeartbeats 4000000 in
set_option maxRecDepth 100000 in
theorem ct_X10_x {l : Launch} {D : e_D} {B : Heap} {d : Nat} {h : e_H} {a0 : Nat} {a1 : Int32} {a2 : Int32} {v : Int32} (hd : 3 ≤ d) (e : f_X10_x h a0 a1 a2 = some v) : e_Run l D B d mX10_x [.ref a0, .int a1, .int a2] h (.ok (some (.int v)), h) := by
  refine e_start [some (.ref a0), some (.int a1), some (.int a2)] (by decide) rfl rfl rfl (Nat.le_of_ble_eq_true rfl) (fun K hl0 hD0 hB0 hM hd0 hr => ?_)
  subst hl0 hD0 hB0 hd0
  have ho : (k_M K).1.cls = "PegBandsModel" := by rw [hM]; rfl
  have hT : (k_M K).2.2.2.1 = some (.int) := by rw [hM]
  refine (show Sx K cX10_x 0 [some (.ref a0), some (.int a1), some (.int a2)] [] h (f_X10_x h a0 a1 a2) (fun w => w = v) from ?_) _ e rfl
  clear e
  unfold f_X10_x
  refine S_aload_n (dc_X10_x 0 rfl) rfl ?_
  refine S_getA (dc_X10_x 1 rfl) ho fl_X10_13_8_15 (fun _ _ => rfl) (fun x1 e1 => ?_)
  refine S_iload_n (dc_X10_x 2 rfl) rfl ?_
  refine S_iload_n (dc_X10_x 3 rfl) rfl ?_
  refine S_aload_n (dc_X10_x 4 rfl) rfl ?_
  refine S_iload_n (dc_X10_x 5 rfl) rfl ?_
  refine S_roI (d := k_d K - 1) (e_callV (b := a0) (As := [.int a1]) (rest := [.int a2, .int a1, .ref x1]) ok_X10_corners rfl (Nat.le_of_ble_eq_true rfl) (dc_X10_x 6 rfl) ho q1803 q1805 (show e_cl[8]? = some (RX10, TX10, 51) from rfl) (e_sel.of qs55) (e_fA_of e1).1 rfl (Nat.le_of_ble_eq_true rfl)) (by omega) (fun _ e => ct_X10_corners (by omega) e) (fun x8 e8 => ?_)
  refine Sx.ncond (fun c11 => ?_)
  refine S_irem (dc_X10_x 7 rfl) c11 ?_
  refine S_roI (d := k_d K - 1) (e_callS (As := [.ref x1, .int a1, .int (a2 - a2 / x8 * x8)]) (rest := []) ok_X10_xOf rfl (Nat.le_of_ble_eq_true rfl) (dc_X10_x 8 rfl) ho q1735 q1736 rfl (Nat.le_of_ble_eq_true rfl)) (by omega) (fun _ e => ct_X10_xOf (by omega) e) (fun x12 e12 => ?_)
  exact S_iret (dc_X10_x 9 rfl) hT rfl (fun q => by cases q; exact hr)
abbrev cX10_y : ByteArray := prog_18_method_53_code
def yX10_y : MethodName := ⟨"PegBandsModel", "y", "(II)I"⟩
def tb_X10_y : List (Nat × Instr × Nat) := [(0, .aload_n 0, 1), (1, .getfield 13, 3), (4, .iload_n 1, 1), (5, .iload_n 2, 1), (6, .aload_n 0, 1), (7, .iload_n 1, 1), (8, .invokevirtual 279, 3), (11, .irem, 1), (12, .invokestatic 211, 3), (15, .ireturn, 1)]
theorem tk_X10_y : ∀ q ∈ tb_X10_y, decode cX10_y q.1 = .ok q.2 := by decide +kernel
theorem dc_X10_y (k : Nat) {pc n : Nat} {i : Instr} (h : tb_X10_y[k]? = some (pc, i, n)) : decode cX10_y pc = .ok (i, n) := tk_X10_y (pc, i, n) (List.mem_of_getElem? h)
abbrev mX10_y : e_M := (yX10_y, cX10_y, 3, some (.int), [])
theorem ok_X10_y : e_mok mX10_y 2 := ⟨q1822, q119, by decide +kernel, fun sig h => by cases h; rfl⟩
def f_X10_y (h : e_H) (a0 : Nat) (a1 : Int32) (a2 : Int32) : Option Int32 :=
  Option.bind (e_fA h a0 8 15) (fun x1 =>
  Option.bind (f_X10_corners h a0 a1) (fun x8 =>
  if x8 = 0 then none else
  Option.bind (f_X10_yOf h x1 a1 (a2 - a2 / x8 * x8)) (fun x12 =>
  some x12)))
set_option maxHeartbeats 4000000 in
set_option maxRecDepth 100000 in
theorem ct_X10_y {l : Launch} {D : e_D} {B : Heap} {d : Nat} {h : e_H} {a0 : Nat} {a1 : Int32} {a2 : Int32} {v : Int32} (hd : 3 ≤ d) (e : f_X10_y h a0 a1 a2 = some v) : e_Run l D B d mX10_y [.ref a0, .int a1, .int a2] h (.ok (some (.int v)), h) := by
  refine e_start [some (.ref a0), some (.int a1), some (.int a2)] (by decide) rfl rfl rfl (Nat.le_of_ble_eq_true rfl) (fun K hl0 hD0 hB0 hM hd0 hr => ?_)
  subst hl0 hD0 hB0 hd0
  have ho : (k_M K).1.cls = "PegBandsModel" := by rw [hM]; rfl
  have hT : (k_M K).2.2.2.1 = some (.int) := by rw [hM]
  refine (show Sx K cX10_y 0 [some (.ref a0), some (.int a1), some (.int a2)] [] h (f_X10_y h a0 a1 a2) (fun w => w = v) from ?_) _ e rfl
  clear e
  unfold f_X10_y
  refine S_aload_n (dc_X10_y 0 rfl) rfl ?_
  refine S_getA (dc_X10_y 1 rfl) ho fl_X10_13_8_15 (fun _ _ => rfl) (fun x1 e1 => ?_)
  refine S_iload_n (dc_X10_y 2 rfl) rfl ?_
  refine S_iload_n (dc_X10_y 3 rfl) rfl ?_
  refine S_aload_n (dc_X10_y 4 rfl) rfl ?_
  refine S_iload_n (dc_X10_y 5 rfl) rfl ?_
  refine S_roI (d := k_d K - 1) (e_callV (b := a0) (As := [.int a1]) (rest := [.int a2, .int a1, .ref x1]) ok_X10_corners rfl (Nat.le_of_ble_eq_true rfl) (dc_X10_y 6 rfl) ho q1803 q1805 (show e_cl[8]? = some (RX10, TX10, 51) from rfl) (e_sel.of qs55) (e_fA_of e1).1 rfl (Nat.le_of_ble_eq_true rfl)) (by omega) (fun _ e => ct_X10_corners (by omega) e) (fun x8 e8 => ?_)
  refine Sx.ncond (fun c11 => ?_)
  refine S_irem (dc_X10_y 7 rfl) c11 ?_
  refine S_roI (d := k_d K - 1) (e_callS (As := [.ref x1, .int a1, .int (a2 - a2 / x8 * x8)]) (rest := []) ok_X10_yOf rfl (Nat.le_of_ble_eq_true rfl) (dc_X10_y 8 rfl) ho q1738 q1739 rfl (Nat.le_of_ble_eq_true rfl)) (by omega) (fun _ e => ct_X10_yOf (by omega) e) (fun x12 e12 => ?_)
  exact S_iret (dc_X10_y 9 rfl) hT rfl (fun q => by cases q; exact hr)
abbrev cX10_signedArea : ByteArray := prog_18_method_56_code
def yX10_signedArea : MethodName := ⟨"PegBandsModel", "signedArea", "(I)I"⟩
def tb_X10_signedArea : List (Nat × Instr × Nat) := [(0, .iconst 0, 1), (1, .istore_n 2, 1), (2, .iconst 0, 1), (3, .istore_n 3, 1), (4, .iload_n 3, 1), (5, .aload_n 0, 1), (6, .iload_n 1, 1), (7, .invokevirtual 279, 3), (10, .if_icmp .ge 43, 3), (13, .iload_n 2, 1), (14, .aload_n 0, 1), (15, .iload_n 1, 1), (16, .iload_n 3, 1), (17, .invokevirtual 285, 3), (20, .aload_n 0, 1), (21, .iload_n 1, 1), (22, .iload_n 3, 1), (23, .iconst 1, 1), (24, .iadd, 1), (25, .invokevirtual 289, 3), (28, .imul, 1), (29, .aload_n 0, 1), (30, .iload_n 1, 1), (31, .iload_n 3, 1), (32, .iconst 1, 1), (33, .iadd, 1), (34, .invokevirtual 285, 3), (37, .aload_n 0, 1), (38, .iload_n 1, 1), (39, .iload_n 3, 1), (40, .invokevirtual 289, 3), (43, .imul, 1), (44, .isub, 1), (45, .iadd, 1), (46, .istore_n 2, 1), (47, .iinc 3 1, 3), (50, .goto (-46), 3), (53, .iload_n 2, 1), (54, .ireturn, 1)]
theorem tk_X10_signedArea : ∀ q ∈ tb_X10_signedArea, decode cX10_signedArea q.1 = .ok q.2 := by decide +kernel
theorem dc_X10_signedArea (k : Nat) {pc n : Nat} {i : Instr} (h : tb_X10_signedArea[k]? = some (pc, i, n)) : decode cX10_signedArea pc = .ok (i, n) := tk_X10_signedArea (pc, i, n) (List.mem_of_getElem? h)
abbrev mX10_signedArea : e_M := (yX10_signedArea, cX10_signedArea, 4, some (.int), [])
theorem ok_X10_signedArea : e_mok mX10_signedArea 1 := ⟨q1814, q119, by decide +kernel, fun sig h => by cases h; rfl⟩
def lp_X10_signedArea_4 (F : Nat) (h : e_H) (a0 : Nat) (a1 : Int32) : Nat → Int32 → Int32 → Option (Int32)
  | 0, _, _ => none
  | n + 1, x2_4, x3_4 =>
    Option.bind (e_is h a0 8) (fun _ =>
    Option.bind (f_X10_corners h a0 a1) (fun x7 =>
    if x7 ≤ x3_4 then
      some x2_4
    else
      Option.bind (f_X10_x h a0 a1 x3_4) (fun x17 =>
      Option.bind (f_X10_y h a0 a1 (x3_4 + 1)) (fun x25 =>
      Option.bind (f_X10_x h a0 a1 (x3_4 + 1)) (fun x34 =>
      Option.bind (f_X10_y h a0 a1 x3_4) (fun x40 =>
      Option.bind (some (x2_4 + ((x17 * x25) - (x34 * x40)))) (fun x46 =>
      Option.bind (some (x3_4 + 1)) (fun x47 =>
      lp_X10_signedArea_4 F h a0 a1 n x46 x47))))))))
def f_X10_signedArea (F : Nat) (h : e_H) (a0 : Nat) (a1 : Int32) : Option Int32 :=
  Option.bind (
      lp_X10_signedArea_4 F h a0 a1 F 0 0
    : Option (Int32)) (fun x2_53_1 =>
  some x2_53_1)
set_option maxHeartbeats 4000000 in
set_option maxRecDepth 100000 in
theorem ct_X10_signedArea {l : Launch} {D : e_D} {B : Heap} {F : Nat} {d : Nat} {h : e_H} {a0 : Nat} {a1 : Int32} {v : Int32} (hd : 4 ≤ d) (e : f_X10_signedArea F h a0 a1 = some v) : e_Run l D B d mX10_signedArea [.ref a0, .int a1] h (.ok (some (.int v)), h) := by
  refine e_start [some (.ref a0), some (.int a1), none, none] (by decide) rfl rfl rfl (Nat.le_of_ble_eq_true rfl) (fun K hl0 hD0 hB0 hM hd0 hr => ?_)
  subst hl0 hD0 hB0 hd0
  have ho : (k_M K).1.cls = "PegBandsModel" := by rw [hM]; rfl
  have hT : (k_M K).2.2.2.1 = some (.int) := by rw [hM]
  refine (show Sx K cX10_signedArea 0 [some (.ref a0), some (.int a1), none, none] [] h (f_X10_signedArea F h a0 a1) (fun w => w = v) from ?_) _ e rfl
  clear e
  unfold f_X10_signedArea
  refine S_iconst_ 0 (dc_X10_signedArea 0 rfl) rfl ?_
  refine S_istore_n (L' := [some (.ref a0), some (.int a1), some (.int 0), none]) (dc_X10_signedArea 1 rfl) rfl ?_
  refine S_iconst_ 0 (dc_X10_signedArea 2 rfl) rfl ?_
  refine S_istore_n (L' := [some (.ref a0), some (.int a1), some (.int 0), some (.int 0)]) (dc_X10_signedArea 3 rfl) rfl ?_
  refine Sx.regK1 (pc2 := 53) (L2 := fun (x2_53_1 : Int32) => [none, none, some (.int x2_53_1), none]) (st2 := fun (x2_53_1 : Int32) => []) (h2 := fun (x2_53_1 : Int32) => h) ?_ (fun Q1 hK1 => ?_)
  · intro x2_53_1
    show Sx K cX10_signedArea 53 [none, none, some (.int x2_53_1), none] [] h _ _
    refine S_iload_n (dc_X10_signedArea 37 rfl) rfl ?_
    exact S_iret (dc_X10_signedArea 38 rfl) hT rfl (fun q => by cases q; exact hr)
  · have hK1 : ∀ (x2_53_1 : Int32), Sx K cX10_signedArea 53 [none, none, some (.int x2_53_1), none] [] h (some x2_53_1) Q1 := hK1
    have ih1 : ∀ (n : Nat) (x2_4 : Int32) (x3_4 : Int32), Sx K cX10_signedArea 4 [some (.ref a0), some (.int a1), some (.int x2_4), some (.int x3_4)] [] h (lp_X10_signedArea_4 F h a0 a1 n x2_4 x3_4) Q1 := by
      intro n
      induction n with
      | zero => intro x2_4 x3_4; exact Sx.none
      | succ n ih1 =>
        intro x2_4 x3_4
        rw [lp_X10_signedArea_4.eq_2]
        refine S_iload_n (dc_X10_signedArea 4 rfl) rfl ?_
        refine S_aload_n (dc_X10_signedArea 5 rfl) rfl ?_
        refine S_iload_n (dc_X10_signedArea 6 rfl) rfl ?_
        refine Sx.ask (fun _ i7 => ?_)
        refine S_roI (d := k_d K - 1) (e_callV (b := a0) (As := [.int a1]) (rest := [.int x3_4]) ok_X10_corners rfl (Nat.le_of_ble_eq_true rfl) (dc_X10_signedArea 7 rfl) ho q1803 q1805 (show e_cl[8]? = some (RX10, TX10, 51) from rfl) (e_sel.of qs55) (e_is_of i7) rfl (Nat.le_of_ble_eq_true rfl)) (by omega) (fun _ e => ct_X10_corners (by omega) e) (fun x7 e7 => ?_)
        refine S_icmp_ge 53 (dc_X10_signedArea 8 rfl) rfl (fun c10 => ?_) (fun c10 => ?_)
        · refine Sx.cut [false, false, true, false] ?_
          exact hK1 x2_4
        · refine S_iload_n (dc_X10_signedArea 9 rfl) rfl ?_
          refine S_aload_n (dc_X10_signedArea 10 rfl) rfl ?_
          refine S_iload_n (dc_X10_signedArea 11 rfl) rfl ?_
          refine S_iload_n (dc_X10_signedArea 12 rfl) rfl ?_
          refine S_roI (d := k_d K - 1) (e_callV (b := a0) (As := [.int a1, .int x3_4]) (rest := [.int x2_4]) ok_X10_x rfl (Nat.le_of_ble_eq_true rfl) (dc_X10_signedArea 13 rfl) ho q1815 q1817 (show e_cl[8]? = some (RX10, TX10, 51) from rfl) (e_sel.of qs58) (e_is_of i7) rfl (Nat.le_of_ble_eq_true rfl)) (by omega) (fun _ e => ct_X10_x (by omega) e) (fun x17 e17 => ?_)
          refine S_aload_n (dc_X10_signedArea 14 rfl) rfl ?_
          refine S_iload_n (dc_X10_signedArea 15 rfl) rfl ?_
          refine S_iload_n (dc_X10_signedArea 16 rfl) rfl ?_
          refine S_iconst_ 1 (dc_X10_signedArea 17 rfl) rfl ?_
          refine S_iadd (dc_X10_signedArea 18 rfl) ?_
          refine S_roI (d := k_d K - 1) (e_callV (b := a0) (As := [.int a1, .int (x3_4 + 1)]) (rest := [.int x17, .int x2_4]) ok_X10_y rfl (Nat.le_of_ble_eq_true rfl) (dc_X10_signedArea 19 rfl) ho q1819 q1821 (show e_cl[8]? = some (RX10, TX10, 51) from rfl) (e_sel.of qs59) (e_is_of i7) rfl (Nat.le_of_ble_eq_true rfl)) (by omega) (fun _ e => ct_X10_y (by omega) e) (fun x25 e25 => ?_)
          refine S_imul (dc_X10_signedArea 20 rfl) ?_
          refine S_aload_n (dc_X10_signedArea 21 rfl) rfl ?_
          refine S_iload_n (dc_X10_signedArea 22 rfl) rfl ?_
          refine S_iload_n (dc_X10_signedArea 23 rfl) rfl ?_
          refine S_iconst_ 1 (dc_X10_signedArea 24 rfl) rfl ?_
          refine S_iadd (dc_X10_signedArea 25 rfl) ?_
          refine S_roI (d := k_d K - 1) (e_callV (b := a0) (As := [.int a1, .int (x3_4 + 1)]) (rest := [.int (x17 * x25), .int x2_4]) ok_X10_x rfl (Nat.le_of_ble_eq_true rfl) (dc_X10_signedArea 26 rfl) ho q1815 q1817 (show e_cl[8]? = some (RX10, TX10, 51) from rfl) (e_sel.of qs58) (e_is_of i7) rfl (Nat.le_of_ble_eq_true rfl)) (by omega) (fun _ e => ct_X10_x (by omega) e) (fun x34 e34 => ?_)
          refine S_aload_n (dc_X10_signedArea 27 rfl) rfl ?_
          refine S_iload_n (dc_X10_signedArea 28 rfl) rfl ?_
          refine S_iload_n (dc_X10_signedArea 29 rfl) rfl ?_
          refine S_roI (d := k_d K - 1) (e_callV (b := a0) (As := [.int a1, .int x3_4]) (rest := [.int x34, .int (x17 * x25), .int x2_4]) ok_X10_y rfl (Nat.le_of_ble_eq_true rfl) (dc_X10_signedArea 30 rfl) ho q1819 q1821 (show e_cl[8]? = some (RX10, TX10, 51) from rfl) (e_sel.of qs59) (e_is_of i7) rfl (Nat.le_of_ble_eq_true rfl)) (by omega) (fun _ e => ct_X10_y (by omega) e) (fun x40 e40 => ?_)
          refine S_imul (dc_X10_signedArea 31 rfl) ?_
          refine S_isub (dc_X10_signedArea 32 rfl) ?_
          refine S_iadd (dc_X10_signedArea 33 rfl) ?_
          refine Sx.nameI (fun x46 n46 => ?_)
          refine S_istore_n (L' := [some (.ref a0), some (.int a1), some (.int x46), some (.int x3_4)]) (dc_X10_signedArea 34 rfl) rfl ?_
          refine S_iincN 1 (L' := fun x47 => [some (.ref a0), some (.int a1), some (.int x46), some (.int x47)]) (dc_X10_signedArea 35 rfl) rfl rfl (fun _ => rfl) (fun x47 n47 => ?_)
          refine S_goto 4 (dc_X10_signedArea 36 rfl) rfl ?_
          exact ih1 x46 x47
    exact ih1 F 0 0
abbrev cX10_size : ByteArray := prog_18_method_11_code
def yX10_size : MethodName := ⟨"PegBandsModel", "size", "(I)I"⟩
def tb_X10_size : List (Nat × Instr × Nat) := [(0, .iload_n 0, 1), (1, .ifCond .ge 8, 3), (4, .iload_n 0, 1), (5, .ineg, 1), (6, .goto 4, 3), (9, .iload_n 0, 1), (10, .ireturn, 1)]
theorem tk_X10_size : ∀ q ∈ tb_X10_size, decode cX10_size q.1 = .ok q.2 := by decide +kernel
theorem dc_X10_size (k : Nat) {pc n : Nat} {i : Instr} (h : tb_X10_size[k]? = some (pc, i, n)) : decode cX10_size pc = .ok (i, n) := tk_X10_size (pc, i, n) (List.mem_of_getElem? h)
abbrev mX10_size : e_M := (yX10_size, cX10_size, 1, some (.int), [])
theorem ok_X10_size : e_mok mX10_size 1 := ⟨q1825, q119, by decide +kernel, fun sig h => by cases h; rfl⟩
def f_X10_size (a0 : Int32) : Option Int32 :=
  if 0 ≤ a0 then
    some a0
  else
    some (-a0)
set_option maxHeartbeats 4000000 in
set_option maxRecDepth 100000 in
theorem ct_X10_size {l : Launch} {D : e_D} {B : Heap} {d : Nat} {h : e_H} {a0 : Int32} {v : Int32} (hd : 1 ≤ d) (e : f_X10_size a0 = some v) : e_Run l D B d mX10_size [.int a0] h (.ok (some (.int v)), h) := by
  refine e_start [some (.int a0)] (by decide) rfl rfl rfl (Nat.le_of_ble_eq_true rfl) (fun K hl0 hD0 hB0 hM hd0 hr => ?_)
  subst hl0 hD0 hB0 hd0
  have ho : (k_M K).1.cls = "PegBandsModel" := by rw [hM]; rfl
  have hT : (k_M K).2.2.2.1 = some (.int) := by rw [hM]
  refine (show Sx K cX10_size 0 [some (.int a0)] [] h (f_X10_size a0) (fun w => w = v) from ?_) _ e rfl
  clear e
  unfold f_X10_size
  refine S_iload_n (dc_X10_size 0 rfl) rfl ?_
  refine S_if_ge 9 (dc_X10_size 1 rfl) rfl (fun c1 => ?_) (fun c1 => ?_)
  · refine S_iload_n (dc_X10_size 5 rfl) rfl ?_
    exact S_iret (dc_X10_size 6 rfl) hT rfl (fun q => by cases q; exact hr)
  · refine S_iload_n (dc_X10_size 2 rfl) rfl ?_
    refine S_ineg (dc_X10_size 3 rfl) ?_
    refine S_goto 10 (dc_X10_size 4 rfl) rfl ?_
    exact S_iret (dc_X10_size 6 rfl) hT rfl (fun q => by cases q; exact hr)
abbrev cX10_area : ByteArray := prog_18_method_57_code
def yX10_area : MethodName := ⟨"PegBandsModel", "area", "(I)I"⟩
def tb_X10_area : List (Nat × Instr × Nat) := [(0, .aload_n 0, 1), (1, .iload_n 1, 1), (2, .invokevirtual 292, 3), (5, .invokestatic 105, 3), (8, .ireturn, 1)]
theorem tk_X10_area : ∀ q ∈ tb_X10_area, decode cX10_area q.1 = .ok q.2 := by decide +kernel
theorem dc_X10_area (k : Nat) {pc n : Nat} {i : Instr} (h : tb_X10_area[k]? = some (pc, i, n)) : decode cX10_area pc = .ok (i, n) := tk_X10_area (pc, i, n) (List.mem_of_getElem? h)
abbrev mX10_area : e_M := (yX10_area, cX10_area, 2, some (.int), [])
theorem ok_X10_area : e_mok mX10_area 1 := ⟨q1810, q119, by decide +kernel, fun sig h => by cases h; rfl⟩
def f_X10_area (F : Nat) (h : e_H) (a0 : Nat) (a1 : Int32) : Option Int32 :=
  Option.bind (e_is h a0 8) (fun _ =>
  Option.bind (f_X10_signedArea F h a0 a1) (fun x2 =>
  Option.bind (f_X10_size x2) (fun x5 =>
  some x5)))
set_option maxHeartbeats 4000000 in
set_option maxRecDepth 100000 in
theorem ct_X10_area {l : Launch} {D : e_D} {B : Heap} {F : Nat} {d : Nat} {h : e_H} {a0 : Nat} {a1 : Int32} {v : Int32} (hd : 5 ≤ d) (e : f_X10_area F h a0 a1 = some v) : e_Run l D B d mX10_area [.ref a0, .int a1] h (.ok (some (.int v)), h) := by
  refine e_start [some (.ref a0), some (.int a1)] (by decide) rfl rfl rfl (Nat.le_of_ble_eq_true rfl) (fun K hl0 hD0 hB0 hM hd0 hr => ?_)
  subst hl0 hD0 hB0 hd0
  have ho : (k_M K).1.cls = "PegBandsModel" := by rw [hM]; rfl
  have hT : (k_M K).2.2.2.1 = some (.int) := by rw [hM]
  refine (show Sx K cX10_area 0 [some (.ref a0), some (.int a1)] [] h (f_X10_area F h a0 a1) (fun w => w = v) from ?_) _ e rfl
  clear e
  unfold f_X10_area
  refine S_aload_n (dc_X10_area 0 rfl) rfl ?_
  refine S_iload_n (dc_X10_area 1 rfl) rfl ?_
  refine Sx.ask (fun _ i2 => ?_)
  refine S_roI (d := k_d K - 1) (e_callV (b := a0) (As := [.int a1]) (rest := []) ok_X10_signedArea rfl (Nat.le_of_ble_eq_true rfl) (dc_X10_area 2 rfl) ho q1811 q1813 (show e_cl[8]? = some (RX10, TX10, 51) from rfl) (e_sel.of qs57) (e_is_of i2) rfl (Nat.le_of_ble_eq_true rfl)) (by omega) (fun _ e => ct_X10_signedArea (by omega) e) (fun x2 e2 => ?_)
  refine S_roI (d := k_d K - 1) (e_callS (As := [.int x2]) (rest := []) ok_X10_size rfl (Nat.le_of_ble_eq_true rfl) (dc_X10_area 3 rfl) ho q1823 q1824 rfl (Nat.le_of_ble_eq_true rfl)) (by omega) (fun _ e => ct_X10_size (by omega) e) (fun x5 e5 => ?_)
  exact S_iret (dc_X10_area 4 rfl) hT rfl (fun q => by cases q; exact hr)
abbrev cX10_common : ByteArray := prog_18_method_12_code
def yX10_common : MethodName := ⟨"PegBandsModel", "common", "(II)I"⟩
def tb_X10_common : List (Nat × Instr × Nat) := [(0, .iload_n 0, 1), (1, .invokestatic 105, 3), (4, .istore_n 2, 1), (5, .iload_n 1, 1), (6, .invokestatic 105, 3), (9, .istore_n 3, 1), (10, .iload_n 3, 1), (11, .ifCond .le 16, 3), (14, .iload_n 2, 1), (15, .iload_n 3, 1), (16, .irem, 1), (17, .istore 4, 2), (19, .iload_n 3, 1), (20, .istore_n 2, 1), (21, .iload 4, 2), (23, .istore_n 3, 1), (24, .goto (-14), 3), (27, .iload_n 2, 1), (28, .ireturn, 1)]
theorem tk_X10_common : ∀ q ∈ tb_X10_common, decode cX10_common q.1 = .ok q.2 := by decide +kernel
theorem dc_X10_common (k : Nat) {pc n : Nat} {i : Instr} (h : tb_X10_common[k]? = some (pc, i, n)) : decode cX10_common pc = .ok (i, n) := tk_X10_common (pc, i, n) (List.mem_of_getElem? h)
abbrev mX10_common : e_M := (yX10_common, cX10_common, 5, some (.int), [])
theorem ok_X10_common : e_mok mX10_common 2 := ⟨q1832, q119, by decide +kernel, fun sig h => by cases h; rfl⟩
def lp_X10_common_10 (F : Nat) : Nat → Int32 → Int32 → Option (Int32)
  | 0, _, _ => none
  | n + 1, x2_10, x3_10 =>
    if x3_10 ≤ 0 then
      some x2_10
    else
      if x3_10 = 0 then none else
      Option.bind (some (x2_10 - x2_10 / x3_10 * x3_10)) (fun x17 =>
      lp_X10_common_10 F n x3_10 x17)
def f_X10_common (F : Nat) (a0 : Int32) (a1 : Int32) : Option Int32 :=
  Option.bind (f_X10_size a0) (fun x1 =>
  Option.bind (f_X10_size a1) (fun x6 =>
  Option.bind (
      lp_X10_common_10 F F x1 x6
    : Option (Int32)) (fun x2_27_1 =>
  some x2_27_1)))
set_option maxHeartbeats 4000000 in
set_option maxRecDepth 100000 in
theorem ct_X10_common {l : Launch} {D : e_D} {B : Heap} {F : Nat} {d : Nat} {h : e_H} {a0 : Int32} {a1 : Int32} {v : Int32} (hd : 2 ≤ d) (e : f_X10_common F a0 a1 = some v) : e_Run l D B d mX10_common [.int a0, .int a1] h (.ok (some (.int v)), h) := by
  refine e_start [some (.int a0), some (.int a1), none, none, none] (by decide) rfl rfl rfl (Nat.le_of_ble_eq_true rfl) (fun K hl0 hD0 hB0 hM hd0 hr => ?_)
  subst hl0 hD0 hB0 hd0
  have ho : (k_M K).1.cls = "PegBandsModel" := by rw [hM]; rfl
  have hT : (k_M K).2.2.2.1 = some (.int) := by rw [hM]
  refine (show Sx K cX10_common 0 [some (.int a0), some (.int a1), none, none, none] [] h (f_X10_common F a0 a1) (fun w => w = v) from ?_) _ e rfl
  clear e
  unfold f_X10_common
  refine S_iload_n (dc_X10_common 0 rfl) rfl ?_
  refine S_roI (d := k_d K - 1) (e_callS (As := [.int a0]) (rest := []) ok_X10_size rfl (Nat.le_of_ble_eq_true rfl) (dc_X10_common 1 rfl) ho q1823 q1824 rfl (Nat.le_of_ble_eq_true rfl)) (by omega) (fun _ e => ct_X10_size (by omega) e) (fun x1 e1 => ?_)
  refine S_istore_n (L' := [some (.int a0), some (.int a1), some (.int x1), none, none]) (dc_X10_common 2 rfl) rfl ?_
  refine S_iload_n (dc_X10_common 3 rfl) rfl ?_
  refine S_roI (d := k_d K - 1) (e_callS (As := [.int a1]) (rest := []) ok_X10_size rfl (Nat.le_of_ble_eq_true rfl) (dc_X10_common 4 rfl) ho q1823 q1824 rfl (Nat.le_of_ble_eq_true rfl)) (by omega) (fun _ e => ct_X10_size (by omega) e) (fun x6 e6 => ?_)
  refine S_istore_n (L' := [some (.int a0), some (.int a1), some (.int x1), some (.int x6), none]) (dc_X10_common 5 rfl) rfl ?_
  refine Sx.regK1 (pc2 := 27) (L2 := fun (x2_27_1 : Int32) => [none, none, some (.int x2_27_1), none, none]) (st2 := fun (x2_27_1 : Int32) => []) (h2 := fun (x2_27_1 : Int32) => h) ?_ (fun Q1 hK1 => ?_)
  · intro x2_27_1
    show Sx K cX10_common 27 [none, none, some (.int x2_27_1), none, none] [] h _ _
    refine S_iload_n (dc_X10_common 17 rfl) rfl ?_
    exact S_iret (dc_X10_common 18 rfl) hT rfl (fun q => by cases q; exact hr)
  · have hK1 : ∀ (x2_27_1 : Int32), Sx K cX10_common 27 [none, none, some (.int x2_27_1), none, none] [] h (some x2_27_1) Q1 := hK1
    have ih1 : ∀ (n : Nat) (x2_10 : Int32) (x3_10 : Int32), Sx K cX10_common 10 [none, none, some (.int x2_10), some (.int x3_10), none] [] h (lp_X10_common_10 F n x2_10 x3_10) Q1 := by
      intro n
      induction n with
      | zero => intro x2_10 x3_10; exact Sx.none
      | succ n ih1 =>
        intro x2_10 x3_10
        rw [lp_X10_common_10.eq_2]
        refine S_iload_n (dc_X10_common 6 rfl) rfl ?_
        refine S_if_le 27 (dc_X10_common 7 rfl) rfl (fun c11 => ?_) (fun c11 => ?_)
        · refine Sx.cut [true, true, true, false, true] ?_
          exact hK1 x2_10
        · refine S_iload_n (dc_X10_common 8 rfl) rfl ?_
          refine S_iload_n (dc_X10_common 9 rfl) rfl ?_
          refine Sx.ncond (fun c16 => ?_)
          refine S_irem (dc_X10_common 10 rfl) c16 ?_
          refine Sx.nameI (fun x17 n17 => ?_)
          refine S_istore (L' := [none, none, some (.int x2_10), some (.int x3_10), some (.int x17)]) (dc_X10_common 11 rfl) rfl ?_
          refine S_iload_n (dc_X10_common 12 rfl) rfl ?_
          refine S_istore_n (L' := [none, none, some (.int x3_10), some (.int x3_10), some (.int x17)]) (dc_X10_common 13 rfl) rfl ?_
          refine S_iload (dc_X10_common 14 rfl) rfl ?_
          refine S_istore_n (L' := [none, none, some (.int x3_10), some (.int x17), some (.int x17)]) (dc_X10_common 15 rfl) rfl ?_
          refine S_goto 10 (dc_X10_common 16 rfl) rfl ?_
          refine Sx.cut [true, true, true, true, false] ?_
          exact ih1 x3_10 x17
    refine Sx.cut [false, false, true, true, true] ?_
    exact ih1 F x1 x6
