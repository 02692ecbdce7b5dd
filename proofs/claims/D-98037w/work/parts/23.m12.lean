/-! printed by gen/gen.py -/
set_option maxRecDepth 100000
abbrev cX10_sentence : ByteArray := prog_18_method_137_code
def yX10_sentence : MethodName := ⟨"PegBandsModel", "sentence", "()I"⟩
def tb_X10_sentence : List (Nat × Instr × Nat) := [(0, .aload_n 0, 1), (1, .sipush 200, 3), (4, .invokevirtual 258, 3), (7, .aload_n 0, 1), (8, .iconst 0, 1), (9, .putfield 447, 3), (12, .aload_n 0, 1), (13, .iconst 0, 1), (14, .putfield 463, 3), (17, .aload_n 0, 1), (18, .iconst 0, 1), (19, .putfield 466, 3), (22, .aload_n 0, 1), (23, .iconst 0, 1), (24, .putfield 483, 3), (27, .aload_n 0, 1), (28, .invokevirtual 480, 3), (31, .ifCond .ne 10, 3), (34, .iconst (-1), 1), (35, .aload_n 0, 1), (36, .getfield 162, 3), (39, .isub, 1), (40, .ireturn, 1), (41, .aload_n 0, 1), (42, .getfield 120, 3), (45, .ifCond .eq 16, 3), (48, .aload_n 0, 1), (49, .iconst 1, 1), (50, .invokevirtual 165, 3), (53, .pop, 1), (54, .iconst (-1), 1), (55, .aload_n 0, 1), (56, .getfield 162, 3), (59, .isub, 1), (60, .ireturn, 1), (61, .aload_n 0, 1), (62, .getfield 13, 3), (65, .sipush 270, 3), (68, .iconst 1, 1), (69, .iastore, 1), (70, .aload_n 0, 1), (71, .getfield 13, 3), (74, .sipush 271, 3), (77, .aload_n 0, 1), (78, .getfield 453, 3), (81, .iastore, 1), (82, .iconst 0, 1), (83, .istore_n 1, 1), (84, .iload_n 1, 1), (85, .sipush 240, 3), (88, .if_icmp .ge 25, 3), (91, .aload_n 0, 1), (92, .getfield 13, 3), (95, .sipush 272, 3), (98, .iload_n 1, 1), (99, .iadd, 1), (100, .aload_n 0, 1), (101, .getfield 88, 3), (104, .iload_n 1, 1), (105, .iaload, 1), (106, .iastore, 1), (107, .iinc 1 1, 3), (110, .goto (-26), 3), (113, .iconst 0, 1), (114, .istore_n 1, 1), (115, .iload_n 1, 1), (116, .bipush 20, 2), (118, .if_icmp .ge 21, 3), (121, .aload_n 0, 1), (122, .getfield 38, 3), (125, .iload_n 1, 1), (126, .aload_n 0, 1), (127, .getfield 91, 3), (130, .iload_n 1, 1), (131, .laload, 1), (132, .lastore, 1), (133, .iinc 1 1, 3), (136, .goto (-21), 3), (139, .aload_n 0, 1), (140, .getfield 463, 3), (143, .ireturn, 1)]
theorem tk_X10_sentence : ∀ q ∈ tb_X10_sentence, decode cX10_sentence q.1 = .ok q.2 := by decide +kernel
theorem dc_X10_sentence (k : Nat) {pc n : Nat} {i : Instr} (h : tb_X10_sentence[k]? = some (pc, i, n)) : decode cX10_sentence pc = .ok (i, n) := tk_X10_sentence (pc, i, n) (List.mem_of_getElem? h)
abbrev mX10_sentence : e_M := (yX10_sentence, cX10_sentence, 2, some (.int), [])
theorem ok_X10_sentence : e_mok mX10_sentence 0 := ⟨q2110, q119, by decide +kernel, fun sig h => by cases h; rfl⟩
def lp_X10_sentence_84 (F : Nat) (a0 : Nat) : Nat → Int32 → e_H → Option (e_H)
  | 0, _, _ => none
  | n + 1, x1_84, h_84 =>
    if 240 ≤ x1_84 then
      some h_84
    else
      Option.bind (e_fA h_84 a0 8 15) (fun x92 =>
      Option.bind (e_fA h_84 a0 8 44) (fun x101 =>
      Option.bind (e_aI h_84 x101 0 x1_84) (fun x105 =>
      Option.bind (e_wI h_84 x92 0 (272 + x1_84) x105) (fun h106 =>
      Option.bind (some (x1_84 + 1)) (fun x107 =>
      lp_X10_sentence_84 F a0 n x107 h106)))))
def lp_X10_sentence_115 (F : Nat) (a0 : Nat) : Nat → Int32 → e_H → Option (e_H)
  | 0, _, _ => none
  | n + 1, x1_115, h_115 =>
    if 20 ≤ x1_115 then
      some h_115
    else
      Option.bind (e_fA h_115 a0 8 23) (fun x122 =>
      Option.bind (e_fA h_115 a0 8 45) (fun x127 =>
      Option.bind (e_aJ h_115 x127 3 x1_115) (fun x131 =>
      Option.bind (e_wJ h_115 x122 3 x1_115 x131) (fun h132 =>
      Option.bind (some (x1_115 + 1)) (fun x133 =>
      lp_X10_sentence_115 F a0 n x133 h132)))))
def f_X10_sentence (F : Nat) (h : e_H) (a0 : Nat) : Option (Int32 × e_H) :=
  Option.bind (e_is h a0 8) (fun _ =>
  Option.bind (f_X10_begin F h a0 200) (fun h4 =>
  Option.bind (e_gI h4 a0 8 46 0) (fun h9 =>
  Option.bind (e_gI h9 a0 8 47 0) (fun h14 =>
  Option.bind (e_gI h14 a0 8 48 0) (fun h19 =>
  Option.bind (e_gI h19 a0 8 50 0) (fun h24 =>
  Option.bind (e_is h24 a0 8) (fun _ =>
  e_b2 (f_X10_readOr F (f_X10_readOne F 32) h24 a0) (fun x28 h28 =>
  if x28 = 0 then
    Option.bind (e_fI h28 a0 8 11) (fun x36 =>
    some (((-1) - x36), h28))
  else
    Option.bind (e_fI h28 a0 8 7) (fun x42 =>
    if x42 = 0 then
      Option.bind (e_fA h28 a0 8 15) (fun x62 =>
      Option.bind (e_wI h28 x62 0 270 1) (fun h69 =>
      Option.bind (e_fA h69 a0 8 15) (fun x71 =>
      Option.bind (e_fI h69 a0 8 49) (fun x78 =>
      Option.bind (e_wI h69 x71 0 271 x78) (fun h81 =>
      Option.bind (
          lp_X10_sentence_84 F a0 F 0 h81
        : Option (e_H)) (fun h113_1 =>
      Option.bind (
          lp_X10_sentence_115 F a0 F 0 h113_1
        : Option (e_H)) (fun h139_2 =>
      Option.bind (e_fI h139_2 a0 8 47) (fun x140 =>
      some (x140, h139_2)))))))))
    else
      e_b2 (f_X10_bad h28 a0 1) (fun x50 h50 =>
      Option.bind (e_fI h50 a0 8 11) (fun x56 =>
      some (((-1) - x56), h50))))))))))))
set_option maxHeartbeats 4000000 in
set_option maxRecDepth 100000 in
theorem ct_X10_sentence {l : Launch} {D : e_D} {B : Heap} {F : Nat} {d : Nat} {h : e_H} {a0 : Nat} {v : Int32} {h1 : e_H} (hd : 283 ≤ d) (e : f_X10_sentence F h a0 = some (v, h1)) : e_Run l D B d mX10_sentence [.ref a0] h (.ok (some (.int v)), h1) := by
  refine e_start [some (.ref a0), none] (by decide) rfl rfl rfl (Nat.le_of_ble_eq_true rfl) (fun K hl0 hD0 hB0 hM hd0 hr => ?_)
  subst hl0 hD0 hB0 hd0
  have ho : (k_M K).1.cls = "PegBandsModel" := by rw [hM]; rfl
  have hT : (k_M K).2.2.2.1 = some (.int) := by rw [hM]
  refine (show Sx K cX10_sentence 0 [some (.ref a0), none] [] h (f_X10_sentence F h a0) (fun w => w = (v, h1)) from ?_) _ e rfl
  clear e
  unfold f_X10_sentence
  refine S_aload_n (dc_X10_sentence 0 rfl) rfl ?_
  refine S_sipush_ 200 (dc_X10_sentence 1 rfl) rfl ?_
  refine Sx.ask (fun _ i4 => ?_)
  refine S_rwV (d := k_d K - 1) (e_callV (b := a0) (As := [.int 200]) (rest := []) ok_X10_begin rfl (Nat.le_of_ble_eq_true rfl) (dc_X10_sentence 2 rfl) ho q1646 q1648 (show e_cl[8]? = some (RX10, TX10, 51) from rfl) (e_sel.of qs36) (e_is_of i4) rfl (Nat.le_of_ble_eq_true rfl)) (by omega) (fun _ e => ct_X10_begin (by omega) e) (fun h4 e4 => ?_)
  refine S_aload_n (dc_X10_sentence 3 rfl) rfl ?_
  refine S_iconst_ 0 (dc_X10_sentence 4 rfl) rfl ?_
  refine S_putI (dc_X10_sentence 5 rfl) ho fl_X10_447_8_46 (fun _ _ => rfl) (Or.inl rfl) rfl rfl (fun h9 e9 => ?_)
  refine S_aload_n (dc_X10_sentence 6 rfl) rfl ?_
  refine S_iconst_ 0 (dc_X10_sentence 7 rfl) rfl ?_
  refine S_putI (dc_X10_sentence 8 rfl) ho fl_X10_463_8_47 (fun _ _ => rfl) (Or.inl rfl) rfl rfl (fun h14 e14 => ?_)
  refine S_aload_n (dc_X10_sentence 9 rfl) rfl ?_
  refine S_iconst_ 0 (dc_X10_sentence 10 rfl) rfl ?_
  refine S_putI (dc_X10_sentence 11 rfl) ho fl_X10_466_8_48 (fun _ _ => rfl) (Or.inl rfl) rfl rfl (fun h19 e19 => ?_)
  refine S_aload_n (dc_X10_sentence 12 rfl) rfl ?_
  refine S_iconst_ 0 (dc_X10_sentence 13 rfl) rfl ?_
  refine S_putI (dc_X10_sentence 14 rfl) ho fl_X10_483_8_50 (fun _ _ => rfl) (Or.inl rfl) rfl rfl (fun h24 e24 => ?_)
  refine S_aload_n (dc_X10_sentence 15 rfl) rfl ?_
  refine Sx.ask (fun _ i28 => ?_)
  refine S_rwI (d := k_d K - 1) (e_callV (b := a0) (As := []) (rest := []) ok_X10_readOr rfl (Nat.le_of_ble_eq_true rfl) (dc_X10_sentence 16 rfl) ho q2111 q2113 (show e_cl[8]? = some (RX10, TX10, 51) from rfl) (e_sel.of qs98) (e_is_of i28) rfl (Nat.le_of_ble_eq_true rfl)) (by omega) (fun _ _ e => ct_X10_readOr (dS := 8 * 32 + 20) (hS := fun e => ct_X10_readOne 32 (by omega) e) (by omega) (by omega) e) (fun x28 h28 e28 => ?_)
  refine S_if_ne 41 (dc_X10_sentence 17 rfl) rfl (fun c31 => ?_) (fun c31 => ?_)
  · refine S_aload_n (dc_X10_sentence 23 rfl) rfl ?_
    refine S_getI (dc_X10_sentence 24 rfl) ho fl_X10_120_8_7 (fun _ _ => rfl) (fun x42 e42 => ?_)
    refine S_if_eq 61 (dc_X10_sentence 25 rfl) rfl (fun c45 => ?_) (fun c45 => ?_)
    · refine S_aload_n (dc_X10_sentence 35 rfl) rfl ?_
      refine S_getA (dc_X10_sentence 36 rfl) ho fl_X10_13_8_15 (fun _ _ => rfl) (fun x62 e62 => ?_)
      refine S_sipush_ 270 (dc_X10_sentence 37 rfl) rfl ?_
      refine S_iconst_ 1 (dc_X10_sentence 38 rfl) rfl ?_
      refine S_iast (dc_X10_sentence 39 rfl) (fun h69 e69 => ?_)
      refine S_aload_n (dc_X10_sentence 40 rfl) rfl ?_
      refine S_getA (dc_X10_sentence 41 rfl) ho fl_X10_13_8_15 (fun _ _ => rfl) (fun x71 e71 => ?_)
      refine S_sipush_ 271 (dc_X10_sentence 42 rfl) rfl ?_
      refine S_aload_n (dc_X10_sentence 43 rfl) rfl ?_
      refine S_getI (dc_X10_sentence 44 rfl) ho fl_X10_453_8_49 (fun _ _ => rfl) (fun x78 e78 => ?_)
      refine S_iast (dc_X10_sentence 45 rfl) (fun h81 e81 => ?_)
      refine S_iconst_ 0 (dc_X10_sentence 46 rfl) rfl ?_
      refine S_istore_n (L' := [some (.ref a0), some (.int 0)]) (dc_X10_sentence 47 rfl) rfl ?_
      refine Sx.regK1 (pc2 := 113) (L2 := fun (h113_1 : e_H) => [some (.ref a0), none]) (st2 := fun (h113_1 : e_H) => []) (h2 := fun (h113_1 : e_H) => h113_1) ?_ (fun Q1 hK1 => ?_)
      · intro h113_1
        show Sx K cX10_sentence 113 [some (.ref a0), none] [] h113_1 _ _
        refine S_iconst_ 0 (dc_X10_sentence 63 rfl) rfl ?_
        refine S_istore_n (L' := [some (.ref a0), some (.int 0)]) (dc_X10_sentence 64 rfl) rfl ?_
        refine Sx.regK1 (pc2 := 139) (L2 := fun (h139_2 : e_H) => [some (.ref a0), none]) (st2 := fun (h139_2 : e_H) => []) (h2 := fun (h139_2 : e_H) => h139_2) ?_ (fun Q2 hK2 => ?_)
        · intro h139_2
          show Sx K cX10_sentence 139 [some (.ref a0), none] [] h139_2 _ _
          refine S_aload_n (dc_X10_sentence 78 rfl) rfl ?_
          refine S_getI (dc_X10_sentence 79 rfl) ho fl_X10_463_8_47 (fun _ _ => rfl) (fun x140 e140 => ?_)
          exact S_iret (dc_X10_sentence 80 rfl) hT rfl (e_rqI hr)
        · have hK2 : ∀ (h139_2 : e_H), Sx K cX10_sentence 139 [some (.ref a0), none] [] h139_2 (some h139_2) Q2 := hK2
          have ih2 : ∀ (n : Nat) (x1_115 : Int32) (h_115 : e_H), Sx K cX10_sentence 115 [some (.ref a0), some (.int x1_115)] [] h_115 (lp_X10_sentence_115 F a0 n x1_115 h_115) Q2 := by
            intro n
            induction n with
            | zero => intro x1_115 h_115; exact Sx.none
            | succ n ih2 =>
              intro x1_115 h_115
              rw [lp_X10_sentence_115.eq_2]
              refine S_iload_n (dc_X10_sentence 65 rfl) rfl ?_
              refine S_bipush_ 20 (dc_X10_sentence 66 rfl) rfl ?_
              refine S_icmp_ge 139 (dc_X10_sentence 67 rfl) rfl (fun c118 => ?_) (fun c118 => ?_)
              · refine Sx.cut [true, false] ?_
                exact hK2 h_115
              · refine S_aload_n (dc_X10_sentence 68 rfl) rfl ?_
                refine S_getA (dc_X10_sentence 69 rfl) ho fl_X10_38_8_23 (fun _ _ => rfl) (fun x122 e122 => ?_)
                refine S_iload_n (dc_X10_sentence 70 rfl) rfl ?_
                refine S_aload_n (dc_X10_sentence 71 rfl) rfl ?_
                refine S_getA (dc_X10_sentence 72 rfl) ho fl_X10_91_8_45 (fun _ _ => rfl) (fun x127 e127 => ?_)
                refine S_iload_n (dc_X10_sentence 73 rfl) rfl ?_
                refine S_lald (dc_X10_sentence 74 rfl) (fun x131 e131 => ?_)
                refine S_last (dc_X10_sentence 75 rfl) (fun h132 e132 => ?_)
                refine S_iincN 1 (L' := fun x133 => [some (.ref a0), some (.int x133)]) (dc_X10_sentence 76 rfl) rfl rfl (fun _ => rfl) (fun x133 n133 => ?_)
                refine S_goto 115 (dc_X10_sentence 77 rfl) rfl ?_
                exact ih2 x133 h132
          exact ih2 F 0 h113_1
      · have hK1 : ∀ (h113_1 : e_H), Sx K cX10_sentence 113 [some (.ref a0), none] [] h113_1 (some h113_1) Q1 := hK1
        have ih1 : ∀ (n : Nat) (x1_84 : Int32) (h_84 : e_H), Sx K cX10_sentence 84 [some (.ref a0), some (.int x1_84)] [] h_84 (lp_X10_sentence_84 F a0 n x1_84 h_84) Q1 := by
          intro n
          induction n with
          | zero => intro x1_84 h_84; exact Sx.none
          | succ n ih1 =>
            intro x1_84 h_84
            rw [lp_X10_sentence_84.eq_2]
            refine S_iload_n (dc_X10_sentence 48 rfl) rfl ?_
            refine S_sipush_ 240 (dc_X10_sentence 49 rfl) rfl ?_
            refine S_icmp_ge 113 (dc_X10_sentence 50 rfl) rfl (fun c88 => ?_) (fun c88 => ?_)
            · refine Sx.cut [true, false] ?_
              exact hK1 h_84
            · refine S_aload_n (dc_X10_sentence 51 rfl) rfl ?_
              refine S_getA (dc_X10_sentence 52 rfl) ho fl_X10_13_8_15 (fun _ _ => rfl) (fun x92 e92 => ?_)
              refine S_sipush_ 272 (dc_X10_sentence 53 rfl) rfl ?_
              refine S_iload_n (dc_X10_sentence 54 rfl) rfl ?_
              refine S_iadd (dc_X10_sentence 55 rfl) ?_
              refine S_aload_n (dc_X10_sentence 56 rfl) rfl ?_
              refine S_getA (dc_X10_sentence 57 rfl) ho fl_X10_88_8_44 (fun _ _ => rfl) (fun x101 e101 => ?_)
              refine S_iload_n (dc_X10_sentence 58 rfl) rfl ?_
              refine S_iald (dc_X10_sentence 59 rfl) (fun x105 e105 => ?_)
              refine S_iast (dc_X10_sentence 60 rfl) (fun h106 e106 => ?_)
              refine S_iincN 1 (L' := fun x107 => [some (.ref a0), some (.int x107)]) (dc_X10_sentence 61 rfl) rfl rfl (fun _ => rfl) (fun x107 n107 => ?_)
              refine S_goto 84 (dc_X10_sentence 62 rfl) rfl ?_
              exact ih1 x107 h106
        exact ih1 F 0 h81
    · refine S_aload_n (dc_X10_sentence 26 rfl) rfl ?_
      refine S_iconst_ 1 (dc_X10_sentence 27 rfl) rfl ?_
      refine S_rwI (d := k_d K - 1) (e_callV (b := a0) (As := [.int 1]) (rest := []) ok_X10_bad rfl (Nat.le_of_ble_eq_true rfl) (dc_X10_sentence 28 rfl) ho q1687 q1689 (show e_cl[8]? = some (RX10, TX10, 51) from rfl) (e_sel.of qs42) (e_fI_of e42).1 rfl (Nat.le_of_ble_eq_true rfl)) (by omega) (fun _ _ e => ct_X10_bad (by omega) e) (fun x50 h50 e50 => ?_)
      refine S_pop (dc_X10_sentence 29 rfl) rfl ?_
      refine S_iconst_ (-1) (dc_X10_sentence 30 rfl) rfl ?_
      refine S_aload_n (dc_X10_sentence 31 rfl) rfl ?_
      refine S_getI (dc_X10_sentence 32 rfl) ho fl_X10_162_8_11 (fun _ _ => rfl) (fun x56 e56 => ?_)
      refine S_isub (dc_X10_sentence 33 rfl) ?_
      exact S_iret (dc_X10_sentence 34 rfl) hT rfl (e_rqI hr)
  · refine S_iconst_ (-1) (dc_X10_sentence 18 rfl) rfl ?_
    refine S_aload_n (dc_X10_sentence 19 rfl) rfl ?_
    refine S_getI (dc_X10_sentence 20 rfl) ho fl_X10_162_8_11 (fun _ _ => rfl) (fun x36 e36 => ?_)
    refine S_isub (dc_X10_sentence 21 rfl) ?_
    exact S_iret (dc_X10_sentence 22 rfl) hT rfl (e_rqI hr)
abbrev cX10_holds : ByteArray := prog_18_method_138_code
def yX10_holds : MethodName := ⟨"PegBandsModel", "holds", "(II)Z"⟩
def tb_X10_holds : List (Nat × Instr × Nat) := [(0, .sipush 272, 3), (3, .iconst 4, 1), (4, .iload_n 1, 1), (5, .imul, 1), (6, .iadd, 1), (7, .istore_n 3, 1), (8, .aload_n 0, 1), (9, .getfield 13, 3), (12, .iload_n 3, 1), (13, .iconst 1, 1), (14, .iadd, 1), (15, .iaload, 1), (16, .istore 4, 2), (18, .aload_n 0, 1), (19, .getfield 13, 3), (22, .iload_n 3, 1), (23, .iconst 2, 1), (24, .iadd, 1), (25, .iaload, 1), (26, .istore 5, 2), (28, .aload_n 0, 1), (29, .getfield 13, 3), (32, .iload_n 3, 1), (33, .iaload, 1), (34, .lookupswitch 225 #[(1, 58), (2, 74), (3, 100), (59, 126), (60, 168), (61, 211)], 58), (92, .aload_n 0, 1), (93, .iload 4, 2), (95, .iload_n 2, 1), (96, .invokevirtual 486, 3), (99, .ifCond .ne 7, 3), (102, .iconst 1, 1), (103, .goto 4, 3), (106, .iconst 0, 1), (107, .ireturn, 1), (108, .aload_n 0, 1), (109, .iload 4, 2), (111, .iload_n 2, 1), (112, .invokevirtual 486, 3), (115, .ifCond .eq 17, 3), (118, .aload_n 0, 1), (119, .iload 5, 2), (121, .iload_n 2, 1), (122, .invokevirtual 486, 3), (125, .ifCond .eq 7, 3), (128, .iconst 1, 1), (129, .goto 4, 3), (132, .iconst 0, 1), (133, .ireturn, 1), (134, .aload_n 0, 1), (135, .iload 4, 2), (137, .iload_n 2, 1), (138, .invokevirtual 486, 3), (141, .ifCond .ne 13, 3), (144, .aload_n 0, 1), (145, .iload 5, 2), (147, .iload_n 2, 1), (148, .invokevirtual 486, 3), (151, .ifCond .eq 7, 3), (154, .iconst 1, 1), (155, .goto 4, 3), (158, .iconst 0, 1), (159, .ireturn, 1), (160, .aload_n 0, 1), (161, .getfield 28, 3), (164, .aload_n 0, 1), (165, .invokevirtual 276, 3), (168, .aload_n 0, 1), (169, .getfield 38, 3), (172, .iload 4, 2), (174, .laload, 1), (175, .invokestatic 242, 3), (178, .istore 6, 2), (180, .iload 6, 2), (182, .iconst (-1), 1), (183, .if_icmp .eq 17, 3), (186, .aload_n 0, 1), (187, .iload_n 2, 1), (188, .iload 6, 2), (190, .invokevirtual 333, 3), (193, .ifCond .eq 7, 3), (196, .iconst 1, 1), (197, .goto 4, 3), (200, .iconst 0, 1), (201, .ireturn, 1), (202, .aload_n 0, 1), (203, .getfield 28, 3), (206, .aload_n 0, 1), (207, .invokevirtual 276, 3), (210, .aload_n 0, 1), (211, .getfield 38, 3), (214, .iload 4, 2), (216, .laload, 1), (217, .invokestatic 242, 3), (220, .istore 6, 2), (222, .iload 6, 2), (224, .iconst (-1), 1), (225, .if_icmp .eq 18, 3), (228, .aload_n 0, 1), (229, .iload_n 2, 1), (230, .iload 6, 2), (232, .iconst 2, 1), (233, .invokevirtual 352, 3), (236, .ifCond .eq 7, 3), (239, .iconst 1, 1), (240, .goto 4, 3), (243, .iconst 0, 1), (244, .ireturn, 1), (245, .aload_n 0, 1), (246, .iload_n 2, 1), (247, .invokevirtual 313, 3), (250, .ifCond .le 7, 3), (253, .iconst 1, 1), (254, .goto 4, 3), (257, .iconst 0, 1), (258, .ireturn, 1), (259, .aload_n 0, 1), (260, .getfield 13, 3), (263, .iload_n 3, 1), (264, .iaload, 1), (265, .bipush 50, 2), (267, .isub, 1), (268, .istore 6, 2), (270, .iload 6, 2), (272, .bipush 12, 2), (274, .if_icmp .ne 11, 3), (277, .aload_n 0, 1), (278, .iload_n 2, 1), (279, .invokevirtual 298, 3), (282, .goto 53, 3), (285, .iload 6, 2), (287, .bipush 13, 2), (289, .if_icmp .ne 11, 3), (292, .aload_n 0, 1), (293, .iload_n 2, 1), (294, .invokevirtual 301, 3), (297, .goto 38, 3), (300, .iload 6, 2), (302, .bipush 14, 2), (304, .if_icmp .ne 11, 3), (307, .aload_n 0, 1), (308, .iload_n 2, 1), (309, .invokevirtual 310, 3), (312, .goto 23, 3), (315, .iload 6, 2), (317, .bipush 15, 2), (319, .if_icmp .ne 11, 3), (322, .aload_n 0, 1), (323, .iload_n 2, 1), (324, .invokevirtual 279, 3), (327, .goto 8, 3), (330, .aload_n 0, 1), (331, .iload_n 2, 1), (332, .invokevirtual 316, 3), (335, .istore 7, 2), (337, .aload_n 0, 1), (338, .getfield 13, 3), (341, .iload_n 3, 1), (342, .iconst 3, 1), (343, .iadd, 1), (344, .iaload, 1), (345, .bipush 60, 2), (347, .if_icmp .ne 18, 3), (350, .iload 7, 2), (352, .iload 5, 2), (354, .if_icmp .ge 7, 3), (357, .iconst 1, 1), (358, .goto 47, 3), (361, .iconst 0, 1), (362, .goto 43, 3), (365, .aload_n 0, 1), (366, .getfield 13, 3), (369, .iload_n 3, 1), (370, .iconst 3, 1), (371, .iadd, 1), (372, .iaload, 1), (373, .bipush 61, 2), (375, .if_icmp .ne 18, 3), (378, .iload 7, 2), (380, .iload 5, 2), (382, .if_icmp .ne 7, 3), (385, .iconst 1, 1), (386, .goto 19, 3), (389, .iconst 0, 1), (390, .goto 15, 3), (393, .iload 7, 2), (395, .iload 5, 2), (397, .if_icmp .le 7, 3), (400, .iconst 1, 1), (401, .goto 4, 3), (404, .iconst 0, 1), (405, .ireturn, 1)]
theorem tk_X10_holds : ∀ q ∈ tb_X10_holds, decode cX10_holds q.1 = .ok q.2 := by decide +kernel
theorem dc_X10_holds (k : Nat) {pc n : Nat} {i : Instr} (h : tb_X10_holds[k]? = some (pc, i, n)) : decode cX10_holds pc = .ok (i, n) := tk_X10_holds (pc, i, n) (List.mem_of_getElem? h)
abbrev mX10_holds : e_M := (yX10_holds, cX10_holds, 8, some (.boolean), [])
theorem ok_X10_holds : e_mok mX10_holds 2 := ⟨q2150, q119, by decide +kernel, fun sig h => by cases h; rfl⟩
def fb_X10_holds (F : Nat) (S : e_H → Nat → Int32 → Int32 → Option (Int32 × e_H)) (h : e_H) (a0 : Nat) (a1 : Int32) (a2 : Int32) : Option (Int32 × e_H) :=
  Option.bind (some (272 + (4 * a1))) (fun x7 =>
  Option.bind (e_fA h a0 8 15) (fun x9 =>
  Option.bind (e_aI h x9 0 (x7 + 1)) (fun x15 =>
  Option.bind (e_fA h a0 8 15) (fun x19 =>
  Option.bind (e_aI h x19 0 (x7 + 2)) (fun x25 =>
  Option.bind (e_fA h a0 8 15) (fun x29 =>
  Option.bind (e_aI h x29 0 x7) (fun x33 =>
  if x33 = 1 then
    e_b2 (S h a0 x15 a2) (fun x96 h96 =>
    if x96 = 0 then
      some (1, h96)
    else
      some (0, h96))
  else
  if x33 = 2 then
    e_b2 (S h a0 x15 a2) (fun x112 h112 =>
    if x112 = 0 then
      some (0, h112)
    else
      Option.bind (e_is h112 a0 8) (fun _ =>
      e_b2 (S h112 a0 x25 a2) (fun x122 h122 =>
      if x122 = 0 then
        some (0, h122)
      else
        some (1, h122))))
  else
  if x33 = 3 then
    e_b2 (S h a0 x15 a2) (fun x138 h138 =>
    if x138 = 0 then
      Option.bind (e_is h138 a0 8) (fun _ =>
      e_b2 (S h138 a0 x25 a2) (fun x148 h148 =>
      if x148 = 0 then
        some (0, h148)
      else
        some (1, h148)))
    else
      some (1, h138))
  else
  if x33 = 59 then
    Option.bind (e_fA h a0 8 20) (fun x161 =>
    Option.bind (f_X10_bands h a0) (fun x165 =>
    Option.bind (e_fA h a0 8 23) (fun x169 =>
    Option.bind (e_aJ h x169 3 x15) (fun x174 =>
    Option.bind (f_X10_findIn F h x161 x165 x174) (fun x175 =>
    if x175 = (-1) then
      some (0, h)
    else
      Option.bind (f_X10_liesIn F h a0 a2 x175) (fun x190 =>
      if x190 = 0 then
        some (0, h)
      else
        some (1, h)))))))
  else
  if x33 = 60 then
    Option.bind (e_fA h a0 8 20) (fun x203 =>
    Option.bind (f_X10_bands h a0) (fun x207 =>
    Option.bind (e_fA h a0 8 23) (fun x211 =>
    Option.bind (e_aJ h x211 3 x15) (fun x216 =>
    Option.bind (f_X10_findIn F h x203 x207 x216) (fun x217 =>
    if x217 = (-1) then
      some (0, h)
    else
      e_b2 (f_X10_areAlike F h a0 a2 x217 2) (fun x233 h233 =>
      if x233 = 0 then
        some (0, h233)
      else
        some (1, h233)))))))
  else
  if x33 = 61 then
    Option.bind (f_X10_bent F h a0 a2) (fun x247 =>
    if x247 ≤ 0 then
      some (0, h)
    else
      some (1, h))
  else
    Option.bind (e_fA h a0 8 15) (fun x260 =>
    Option.bind (e_aI h x260 0 x7) (fun x264 =>
    Option.bind (some (x264 - 50)) (fun x268 =>
    Option.bind (
        if x268 = 12 then
          Option.bind (f_X10_area F h a0 a2) (fun x279 =>
          some x279)
        else
          if x268 = 13 then
            Option.bind (f_X10_onMany F h a0 a2) (fun x294 =>
            some x294)
          else
            if x268 = 14 then
              Option.bind (f_X10_within F h a0 a2) (fun x309 =>
              some x309)
            else
              if x268 = 15 then
                Option.bind (f_X10_corners h a0 a2) (fun x324 =>
                some x324)
              else
                Option.bind (f_X10_right F h a0 a2) (fun x332 =>
                some x332)
      : Option (Int32)) (fun s335_1 =>
    Option.bind (e_fA h a0 8 15) (fun x338 =>
    Option.bind (e_aI h x338 0 (x7 + 3)) (fun x344 =>
    if x344 = 60 then
      if x25 ≤ s335_1 then
        some (0, h)
      else
        some (1, h)
    else
      Option.bind (e_fA h a0 8 15) (fun x366 =>
      Option.bind (e_aI h x366 0 (x7 + 3)) (fun x372 =>
      if x372 = 61 then
        if s335_1 = x25 then
          some (1, h)
        else
          some (0, h)
      else
        if s335_1 ≤ x25 then
          some (0, h)
        else
          some (1, h))))))))))))))))
set_option maxHeartbeats 4000000 in
set_option maxRecDepth 100000 in
theorem cb_X10_holds {l : Launch} {D : e_D} {B : Heap} {F : Nat} {S : e_H → Nat → Int32 → Int32 → Option (Int32 × e_H)} {dS : Nat} {d : Nat} {h : e_H} {a0 : Nat} {a1 : Int32} {a2 : Int32} {v : Int32} {h1 : e_H} (hS : ∀ {h : e_H} {a0 : Nat} {a1 : Int32} {a2 : Int32} {v : Int32} {h1 : e_H} , S h a0 a1 a2 = some (v, h1) → e_Run l D B dS mX10_holds [.ref a0, .int a1, .int a2] h (.ok (some (.int v)), h1)) (hd : 8 ≤ d) (hd2 : dS + 1 ≤ d) (e : fb_X10_holds F S h a0 a1 a2 = some (v, h1)) : e_Run l D B d mX10_holds [.ref a0, .int a1, .int a2] h (.ok (some (.int v)), h1) := by
  refine e_start [some (.ref a0), some (.int a1), some (.int a2), none, none, none, none, none] (by decide) rfl rfl rfl (Nat.le_of_ble_eq_true rfl) (fun K hl0 hD0 hB0 hM hd0 hr => ?_)
  subst hl0 hD0 hB0 hd0
  have ho : (k_M K).1.cls = "PegBandsModel" := by rw [hM]; rfl
  have hT : (k_M K).2.2.2.1 = some (.boolean) := by rw [hM]
  refine (show Sx K cX10_holds 0 [some (.ref a0), some (.int a1), some (.int a2), none, none, none, none, none] [] h (fb_X10_holds F S h a0 a1 a2) (fun w => w = (v, h1)) from ?_) _ e rfl
  clear e
  unfold fb_X10_holds
  refine S_sipush_ 272 (dc_X10_holds 0 rfl) rfl ?_
  refine S_iconst_ 4 (dc_X10_holds 1 rfl) rfl ?_
  refine S_iload_n (dc_X10_holds 2 rfl) rfl ?_
  refine S_imul (dc_X10_holds 3 rfl) ?_
  refine S_iadd (dc_X10_holds 4 rfl) ?_
  refine Sx.nameI (fun x7 n7 => ?_)
  refine S_istore_n (L' := [some (.ref a0), some (.int a1), some (.int a2), some (.int x7), none, none, none, none]) (dc_X10_holds 5 rfl) rfl ?_
  refine S_aload_n (dc_X10_holds 6 rfl) rfl ?_
  refine S_getA (dc_X10_holds 7 rfl) ho fl_X10_13_8_15 (fun _ _ => rfl) (fun x9 e9 => ?_)
  refine S_iload_n (dc_X10_holds 8 rfl) rfl ?_
  refine S_iconst_ 1 (dc_X10_holds 9 rfl) rfl ?_
  refine S_iadd (dc_X10_holds 10 rfl) ?_
  refine S_iald (dc_X10_holds 11 rfl) (fun x15 e15 => ?_)
  refine S_istore (L' := [some (.ref a0), some (.int a1), some (.int a2), some (.int x7), some (.int x15), none, none, none]) (dc_X10_holds 12 rfl) rfl ?_
  refine S_aload_n (dc_X10_holds 13 rfl) rfl ?_
  refine S_getA (dc_X10_holds 14 rfl) ho fl_X10_13_8_15 (fun _ _ => rfl) (fun x19 e19 => ?_)
  refine S_iload_n (dc_X10_holds 15 rfl) rfl ?_
  refine S_iconst_ 2 (dc_X10_holds 16 rfl) rfl ?_
  refine S_iadd (dc_X10_holds 17 rfl) ?_
  refine S_iald (dc_X10_holds 18 rfl) (fun x25 e25 => ?_)
  refine S_istore (L' := [some (.ref a0), some (.int a1), some (.int a2), some (.int x7), some (.int x15), some (.int x25), none, none]) (dc_X10_holds 19 rfl) rfl ?_
  refine S_aload_n (dc_X10_holds 20 rfl) rfl ?_
  refine S_getA (dc_X10_holds 21 rfl) ho fl_X10_13_8_15 (fun _ _ => rfl) (fun x29 e29 => ?_)
  refine S_iload_n (dc_X10_holds 22 rfl) rfl ?_
  refine S_iald (dc_X10_holds 23 rfl) (fun x33 e33 => ?_)
  refine Sx.case (fun c34_0 => ?_) (fun c34_0 => ?_)
  · refine S_lsw 92 (dc_X10_holds 24 rfl) (by decide) (by rw [c34_0] <;> rfl) rfl ?_
    refine S_aload_n (dc_X10_holds 25 rfl) rfl ?_
    refine S_iload (dc_X10_holds 26 rfl) rfl ?_
    refine S_iload_n (dc_X10_holds 27 rfl) rfl ?_
    refine S_rwI (d := dS) (e_callV (b := a0) (As := [.int x15, .int a2]) (rest := []) ok_X10_holds rfl (Nat.le_of_ble_eq_true rfl) (dc_X10_holds 28 rfl) ho q2147 q2149 (show e_cl[8]? = some (RX10, TX10, 51) from rfl) (e_sel.of qs106) (e_fA_of e9).1 rfl (Nat.le_of_ble_eq_true rfl)) (by omega) (fun _ _ e => hS e) (fun x96 h96 e96 => ?_)
    refine S_if_ne 106 (dc_X10_holds 29 rfl) rfl (fun c99 => ?_) (fun c99 => ?_)
    · refine S_iconst_ 0 (dc_X10_holds 32 rfl) rfl ?_
      exact S_iret (dc_X10_holds 33 rfl) hT rfl (e_rqI hr)
    · refine S_iconst_ 1 (dc_X10_holds 30 rfl) rfl ?_
      refine S_goto 107 (dc_X10_holds 31 rfl) rfl ?_
      exact S_iret (dc_X10_holds 33 rfl) hT rfl (e_rqI hr)
  refine Sx.case (fun c34_1 => ?_) (fun c34_1 => ?_)
  · refine S_lsw 108 (dc_X10_holds 24 rfl) (by decide) (by rw [c34_1] <;> rfl) rfl ?_
    refine S_aload_n (dc_X10_holds 34 rfl) rfl ?_
    refine S_iload (dc_X10_holds 35 rfl) rfl ?_
    refine S_iload_n (dc_X10_holds 36 rfl) rfl ?_
    refine S_rwI (d := dS) (e_callV (b := a0) (As := [.int x15, .int a2]) (rest := []) ok_X10_holds rfl (Nat.le_of_ble_eq_true rfl) (dc_X10_holds 37 rfl) ho q2147 q2149 (show e_cl[8]? = some (RX10, TX10, 51) from rfl) (e_sel.of qs106) (e_fA_of e9).1 rfl (Nat.le_of_ble_eq_true rfl)) (by omega) (fun _ _ e => hS e) (fun x112 h112 e112 => ?_)
    refine S_if_eq 132 (dc_X10_holds 38 rfl) rfl (fun c115 => ?_) (fun c115 => ?_)
    · refine S_iconst_ 0 (dc_X10_holds 46 rfl) rfl ?_
      exact S_iret (dc_X10_holds 47 rfl) hT rfl (e_rqI hr)
    · refine S_aload_n (dc_X10_holds 39 rfl) rfl ?_
      refine S_iload (dc_X10_holds 40 rfl) rfl ?_
      refine S_iload_n (dc_X10_holds 41 rfl) rfl ?_
      refine Sx.ask (fun _ i122 => ?_)
      refine S_rwI (d := dS) (e_callV (b := a0) (As := [.int x25, .int a2]) (rest := []) ok_X10_holds rfl (Nat.le_of_ble_eq_true rfl) (dc_X10_holds 42 rfl) ho q2147 q2149 (show e_cl[8]? = some (RX10, TX10, 51) from rfl) (e_sel.of qs106) (e_is_of i122) rfl (Nat.le_of_ble_eq_true rfl)) (by omega) (fun _ _ e => hS e) (fun x122 h122 e122 => ?_)
      refine S_if_eq 132 (dc_X10_holds 43 rfl) rfl (fun c125 => ?_) (fun c125 => ?_)
      · refine S_iconst_ 0 (dc_X10_holds 46 rfl) rfl ?_
        exact S_iret (dc_X10_holds 47 rfl) hT rfl (e_rqI hr)
      · refine S_iconst_ 1 (dc_X10_holds 44 rfl) rfl ?_
        refine S_goto 133 (dc_X10_holds 45 rfl) rfl ?_
        exact S_iret (dc_X10_holds 47 rfl) hT rfl (e_rqI hr)
  refine Sx.case (fun c34_2 => ?_) (fun c34_2 => ?_)
  · refine S_lsw 134 (dc_X10_holds 24 rfl) (by decide) (by rw [c34_2] <;> rfl) rfl ?_
    refine S_aload_n (dc_X10_holds 48 rfl) rfl ?_
    refine S_iload (dc_X10_holds 49 rfl) rfl ?_
    refine S_iload_n (dc_X10_holds 50 rfl) rfl ?_
    refine S_rwI (d := dS) (e_callV (b := a0) (As := [.int x15, .int a2]) (rest := []) ok_X10_holds rfl (Nat.le_of_ble_eq_true rfl) (dc_X10_holds 51 rfl) ho q2147 q2149 (show e_cl[8]? = some (RX10, TX10, 51) from rfl) (e_sel.of qs106) (e_fA_of e9).1 rfl (Nat.le_of_ble_eq_true rfl)) (by omega) (fun _ _ e => hS e) (fun x138 h138 e138 => ?_)
    refine S_if_ne 154 (dc_X10_holds 52 rfl) rfl (fun c141 => ?_) (fun c141 => ?_)
    · refine S_iconst_ 1 (dc_X10_holds 58 rfl) rfl ?_
      refine S_goto 159 (dc_X10_holds 59 rfl) rfl ?_
      exact S_iret (dc_X10_holds 61 rfl) hT rfl (e_rqI hr)
    · refine S_aload_n (dc_X10_holds 53 rfl) rfl ?_
      refine S_iload (dc_X10_holds 54 rfl) rfl ?_
      refine S_iload_n (dc_X10_holds 55 rfl) rfl ?_
      refine Sx.ask (fun _ i148 => ?_)
      refine S_rwI (d := dS) (e_callV (b := a0) (As := [.int x25, .int a2]) (rest := []) ok_X10_holds rfl (Nat.le_of_ble_eq_true rfl) (dc_X10_holds 56 rfl) ho q2147 q2149 (show e_cl[8]? = some (RX10, TX10, 51) from rfl) (e_sel.of qs106) (e_is_of i148) rfl (Nat.le_of_ble_eq_true rfl)) (by omega) (fun _ _ e => hS e) (fun x148 h148 e148 => ?_)
      refine S_if_eq 158 (dc_X10_holds 57 rfl) rfl (fun c151 => ?_) (fun c151 => ?_)
      · refine S_iconst_ 0 (dc_X10_holds 60 rfl) rfl ?_
        exact S_iret (dc_X10_holds 61 rfl) hT rfl (e_rqI hr)
      · refine S_iconst_ 1 (dc_X10_holds 58 rfl) rfl ?_
        refine S_goto 159 (dc_X10_holds 59 rfl) rfl ?_
        exact S_iret (dc_X10_holds 61 rfl) hT rfl (e_rqI hr)
  refine Sx.case (fun c34_3 => ?_) (fun c34_3 => ?_)
  · refine S_lsw 160 (dc_X10_holds 24 rfl) (by decide) (by rw [c34_3] <;> rfl) rfl ?_
    refine S_aload_n (dc_X10_holds 62 rfl) rfl ?_
    refine S_getA (dc_X10_holds 63 rfl) ho fl_X10_28_8_20 (fun _ _ => rfl) (fun x161 e161 => ?_)
    refine S_aload_n (dc_X10_holds 64 rfl) rfl ?_
    refine S_roI (d := k_d K - 1) (e_callV (b := a0) (As := []) (rest := [.ref x161]) ok_X10_bands rfl (Nat.le_of_ble_eq_true rfl) (dc_X10_holds 65 rfl) ho q1795 q1797 (show e_cl[8]? = some (RX10, TX10, 51) from rfl) (e_sel.of qs53) (e_fA_of e9).1 rfl (Nat.le_of_ble_eq_true rfl)) (by omega) (fun _ e => ct_X10_bands (by omega) e) (fun x165 e165 => ?_)
    refine S_aload_n (dc_X10_holds 66 rfl) rfl ?_
    refine S_getA (dc_X10_holds 67 rfl) ho fl_X10_38_8_23 (fun _ _ => rfl) (fun x169 e169 => ?_)
    refine S_iload (dc_X10_holds 68 rfl) rfl ?_
    refine S_lald (dc_X10_holds 69 rfl) (fun x174 e174 => ?_)
    refine S_roI (d := k_d K - 1) (e_callS (As := [.ref x161, .int x165, .long x174]) (rest := []) ok_X10_findIn rfl (Nat.le_of_ble_eq_true rfl) (dc_X10_holds 70 rfl) ho q1726 q1727 rfl (Nat.le_of_ble_eq_true rfl)) (by omega) (fun _ e => ct_X10_findIn (by omega) e) (fun x175 e175 => ?_)
    refine S_istore (L' := [some (.ref a0), some (.int a1), some (.int a2), some (.int x7), some (.int x15), some (.int x25), some (.int x175), none]) (dc_X10_holds 71 rfl) rfl ?_
    refine S_iload (dc_X10_holds 72 rfl) rfl ?_
    refine S_iconst_ (-1) (dc_X10_holds 73 rfl) rfl ?_
    refine S_icmp_eq 200 (dc_X10_holds 74 rfl) rfl (fun c183 => ?_) (fun c183 => ?_)
    · refine S_iconst_ 0 (dc_X10_holds 82 rfl) rfl ?_
      exact S_iret (dc_X10_holds 83 rfl) hT rfl (e_rqI hr)
    · refine S_aload_n (dc_X10_holds 75 rfl) rfl ?_
      refine S_iload_n (dc_X10_holds 76 rfl) rfl ?_
      refine S_iload (dc_X10_holds 77 rfl) rfl ?_
      refine S_roI (d := k_d K - 1) (e_callV (b := a0) (As := [.int a2, .int x175]) (rest := []) ok_X10_liesIn rfl (Nat.le_of_ble_eq_true rfl) (dc_X10_holds 78 rfl) ho q1881 q1883 (show e_cl[8]? = some (RX10, TX10, 51) from rfl) (e_sel.of qs68) (e_fA_of e9).1 rfl (Nat.le_of_ble_eq_true rfl)) (by omega) (fun _ e => ct_X10_liesIn (by omega) e) (fun x190 e190 => ?_)
      refine S_if_eq 200 (dc_X10_holds 79 rfl) rfl (fun c193 => ?_) (fun c193 => ?_)
      · refine S_iconst_ 0 (dc_X10_holds 82 rfl) rfl ?_
        exact S_iret (dc_X10_holds 83 rfl) hT rfl (e_rqI hr)
      · refine S_iconst_ 1 (dc_X10_holds 80 rfl) rfl ?_
        refine S_goto 201 (dc_X10_holds 81 rfl) rfl ?_
        exact S_iret (dc_X10_holds 83 rfl) hT rfl (e_rqI hr)
  refine Sx.case (fun c34_4 => ?_) (fun c34_4 => ?_)
  · refine S_lsw 202 (dc_X10_holds 24 rfl) (by decide) (by rw [c34_4] <;> rfl) rfl ?_
    refine S_aload_n (dc_X10_holds 84 rfl) rfl ?_
    refine S_getA (dc_X10_holds 85 rfl) ho fl_X10_28_8_20 (fun _ _ => rfl) (fun x203 e203 => ?_)
    refine S_aload_n (dc_X10_holds 86 rfl) rfl ?_
    refine S_roI (d := k_d K - 1) (e_callV (b := a0) (As := []) (rest := [.ref x203]) ok_X10_bands rfl (Nat.le_of_ble_eq_true rfl) (dc_X10_holds 87 rfl) ho q1795 q1797 (show e_cl[8]? = some (RX10, TX10, 51) from rfl) (e_sel.of qs53) (e_fA_of e9).1 rfl (Nat.le_of_ble_eq_true rfl)) (by omega) (fun _ e => ct_X10_bands (by omega) e) (fun x207 e207 => ?_)
    refine S_aload_n (dc_X10_holds 88 rfl) rfl ?_
    refine S_getA (dc_X10_holds 89 rfl) ho fl_X10_38_8_23 (fun _ _ => rfl) (fun x211 e211 => ?_)
    refine S_iload (dc_X10_holds 90 rfl) rfl ?_
    refine S_lald (dc_X10_holds 91 rfl) (fun x216 e216 => ?_)
    refine S_roI (d := k_d K - 1) (e_callS (As := [.ref x203, .int x207, .long x216]) (rest := []) ok_X10_findIn rfl (Nat.le_of_ble_eq_true rfl) (dc_X10_holds 92 rfl) ho q1726 q1727 rfl (Nat.le_of_ble_eq_true rfl)) (by omega) (fun _ e => ct_X10_findIn (by omega) e) (fun x217 e217 => ?_)
    refine S_istore (L' := [some (.ref a0), some (.int a1), some (.int a2), some (.int x7), some (.int x15), some (.int x25), some (.int x217), none]) (dc_X10_holds 93 rfl) rfl ?_
    refine S_iload (dc_X10_holds 94 rfl) rfl ?_
    refine S_iconst_ (-1) (dc_X10_holds 95 rfl) rfl ?_
    refine S_icmp_eq 243 (dc_X10_holds 96 rfl) rfl (fun c225 => ?_) (fun c225 => ?_)
    · refine S_iconst_ 0 (dc_X10_holds 105 rfl) rfl ?_
      exact S_iret (dc_X10_holds 106 rfl) hT rfl (e_rqI hr)
    · refine S_aload_n (dc_X10_holds 97 rfl) rfl ?_
      refine S_iload_n (dc_X10_holds 98 rfl) rfl ?_
      refine S_iload (dc_X10_holds 99 rfl) rfl ?_
      refine S_iconst_ 2 (dc_X10_holds 100 rfl) rfl ?_
      refine S_rwI (d := k_d K - 1) (e_callV (b := a0) (As := [.int a2, .int x217, .int 2]) (rest := []) ok_X10_areAlike rfl (Nat.le_of_ble_eq_true rfl) (dc_X10_holds 101 rfl) ho q1897 q1899 (show e_cl[8]? = some (RX10, TX10, 51) from rfl) (e_sel.of qs69) (e_fA_of e9).1 rfl (Nat.le_of_ble_eq_true rfl)) (by omega) (fun _ _ e => ct_X10_areAlike (by omega) e) (fun x233 h233 e233 => ?_)
      refine S_if_eq 243 (dc_X10_holds 102 rfl) rfl (fun c236 => ?_) (fun c236 => ?_)
      · refine S_iconst_ 0 (dc_X10_holds 105 rfl) rfl ?_
        exact S_iret (dc_X10_holds 106 rfl) hT rfl (e_rqI hr)
      · refine S_iconst_ 1 (dc_X10_holds 103 rfl) rfl ?_
        refine S_goto 244 (dc_X10_holds 104 rfl) rfl ?_
        exact S_iret (dc_X10_holds 106 rfl) hT rfl (e_rqI hr)
  refine Sx.case (fun c34_5 => ?_) (fun c34_5 => ?_)
  · refine S_lsw 245 (dc_X10_holds 24 rfl) (by decide) (by rw [c34_5] <;> rfl) rfl ?_
    refine S_aload_n (dc_X10_holds 107 rfl) rfl ?_
    refine S_iload_n (dc_X10_holds 108 rfl) rfl ?_
    refine S_roI (d := k_d K - 1) (e_callV (b := a0) (As := [.int a2]) (rest := []) ok_X10_bent rfl (Nat.le_of_ble_eq_true rfl) (dc_X10_holds 109 rfl) ho q1837 q1839 (show e_cl[8]? = some (RX10, TX10, 51) from rfl) (e_sel.of qs62) (e_fA_of e9).1 rfl (Nat.le_of_ble_eq_true rfl)) (by omega) (fun _ e => ct_X10_bent (by omega) e) (fun x247 e247 => ?_)
    refine S_if_le 257 (dc_X10_holds 110 rfl) rfl (fun c250 => ?_) (fun c250 => ?_)
    · refine S_iconst_ 0 (dc_X10_holds 113 rfl) rfl ?_
      exact S_iret (dc_X10_holds 114 rfl) hT rfl (e_rqI hr)
    · refine S_iconst_ 1 (dc_X10_holds 111 rfl) rfl ?_
      refine S_goto 258 (dc_X10_holds 112 rfl) rfl ?_
      exact S_iret (dc_X10_holds 114 rfl) hT rfl (e_rqI hr)
  refine S_lsw (off := 225) 259 (dc_X10_holds 24 rfl) (by decide) (by show Op.lookupswitch.offset [(1, 58), (2, 74), (3, 100), (59, 126), (60, 168), (61, 211)] (225) _ = _; rw [e_lso c34_0 (by decide)]; rw [e_lso c34_1 (by decide)]; rw [e_lso c34_2 (by decide)]; rw [e_lso c34_3 (by decide)]; rw [e_lso c34_4 (by decide)]; rw [e_lso c34_5 (by decide)] <;> rfl) rfl ?_
  refine S_aload_n (dc_X10_holds 115 rfl) rfl ?_
  refine S_getA (dc_X10_holds 116 rfl) ho fl_X10_13_8_15 (fun _ _ => rfl) (fun x260 e260 => ?_)
  refine S_iload_n (dc_X10_holds 117 rfl) rfl ?_
  refine S_iald (dc_X10_holds 118 rfl) (fun x264 e264 => ?_)
  refine S_bipush_ 50 (dc_X10_holds 119 rfl) rfl ?_
  refine S_isub (dc_X10_holds 120 rfl) ?_
  refine Sx.nameI (fun x268 n268 => ?_)
  refine S_istore (L' := [some (.ref a0), some (.int a1), some (.int a2), some (.int x7), some (.int x15), some (.int x25), some (.int x268), none]) (dc_X10_holds 121 rfl) rfl ?_
  refine S_iload (dc_X10_holds 122 rfl) rfl ?_
  refine S_bipush_ 12 (dc_X10_holds 123 rfl) rfl ?_
  refine Sx.regK1 (pc2 := 335) (L2 := fun (s335_1 : Int32) => [some (.ref a0), none, none, some (.int x7), none, some (.int x25), none, none]) (st2 := fun (s335_1 : Int32) => [.int s335_1]) (h2 := fun (s335_1 : Int32) => h) ?_ (fun Q1 hK1 => ?_)
  · intro s335_1
    show Sx K cX10_holds 335 [some (.ref a0), none, none, some (.int x7), none, some (.int x25), none, none] [.int s335_1] h _ _
    refine S_istore (L' := [some (.ref a0), none, none, some (.int x7), none, some (.int x25), none, some (.int s335_1)]) (dc_X10_holds 153 rfl) rfl ?_
    refine S_aload_n (dc_X10_holds 154 rfl) rfl ?_
    refine S_getA (dc_X10_holds 155 rfl) ho fl_X10_13_8_15 (fun _ _ => rfl) (fun x338 e338 => ?_)
    refine S_iload_n (dc_X10_holds 156 rfl) rfl ?_
    refine S_iconst_ 3 (dc_X10_holds 157 rfl) rfl ?_
    refine S_iadd (dc_X10_holds 158 rfl) ?_
    refine S_iald (dc_X10_holds 159 rfl) (fun x344 e344 => ?_)
    refine S_bipush_ 60 (dc_X10_holds 160 rfl) rfl ?_
    refine S_icmp_ne 365 (dc_X10_holds 161 rfl) rfl (fun c347 => ?_) (fun c347 => ?_)
    · refine S_aload_n (dc_X10_holds 169 rfl) rfl ?_
      refine S_getA (dc_X10_holds 170 rfl) ho fl_X10_13_8_15 (fun _ _ => rfl) (fun x366 e366 => ?_)
      refine S_iload_n (dc_X10_holds 171 rfl) rfl ?_
      refine S_iconst_ 3 (dc_X10_holds 172 rfl) rfl ?_
      refine S_iadd (dc_X10_holds 173 rfl) ?_
      refine S_iald (dc_X10_holds 174 rfl) (fun x372 e372 => ?_)
      refine S_bipush_ 61 (dc_X10_holds 175 rfl) rfl ?_
      refine S_icmp_ne 393 (dc_X10_holds 176 rfl) rfl (fun c375 => ?_) (fun c375 => ?_)
      · refine S_iload (dc_X10_holds 184 rfl) rfl ?_
        refine S_iload (dc_X10_holds 185 rfl) rfl ?_
        refine S_icmp_le 404 (dc_X10_holds 186 rfl) rfl (fun c397 => ?_) (fun c397 => ?_)
        · refine S_iconst_ 0 (dc_X10_holds 189 rfl) rfl ?_
          exact S_iret (dc_X10_holds 190 rfl) hT rfl (e_rqI hr)
        · refine S_iconst_ 1 (dc_X10_holds 187 rfl) rfl ?_
          refine S_goto 405 (dc_X10_holds 188 rfl) rfl ?_
          exact S_iret (dc_X10_holds 190 rfl) hT rfl (e_rqI hr)
      · refine S_iload (dc_X10_holds 177 rfl) rfl ?_
        refine S_iload (dc_X10_holds 178 rfl) rfl ?_
        refine S_icmp_ne 389 (dc_X10_holds 179 rfl) rfl (fun c382 => ?_) (fun c382 => ?_)
        · refine S_iconst_ 0 (dc_X10_holds 182 rfl) rfl ?_
          refine S_goto 405 (dc_X10_holds 183 rfl) rfl ?_
          exact S_iret (dc_X10_holds 190 rfl) hT rfl (e_rqI hr)
        · refine S_iconst_ 1 (dc_X10_holds 180 rfl) rfl ?_
          refine S_goto 405 (dc_X10_holds 181 rfl) rfl ?_
          exact S_iret (dc_X10_holds 190 rfl) hT rfl (e_rqI hr)
    · refine S_iload (dc_X10_holds 162 rfl) rfl ?_
      refine S_iload (dc_X10_holds 163 rfl) rfl ?_
      refine S_icmp_ge 361 (dc_X10_holds 164 rfl) rfl (fun c354 => ?_) (fun c354 => ?_)
      · refine S_iconst_ 0 (dc_X10_holds 167 rfl) rfl ?_
        refine S_goto 405 (dc_X10_holds 168 rfl) rfl ?_
        exact S_iret (dc_X10_holds 190 rfl) hT rfl (e_rqI hr)
      · refine S_iconst_ 1 (dc_X10_holds 165 rfl) rfl ?_
        refine S_goto 405 (dc_X10_holds 166 rfl) rfl ?_
        exact S_iret (dc_X10_holds 190 rfl) hT rfl (e_rqI hr)
  · have hK1 : ∀ (s335_1 : Int32), Sx K cX10_holds 335 [some (.ref a0), none, none, some (.int x7), none, some (.int x25), none, none] [.int s335_1] h (some s335_1) Q1 := hK1
    refine S_icmp_ne 285 (dc_X10_holds 124 rfl) rfl (fun c274 => ?_) (fun c274 => ?_)
    · refine S_iload (dc_X10_holds 129 rfl) rfl ?_
      refine S_bipush_ 13 (dc_X10_holds 130 rfl) rfl ?_
      refine S_icmp_ne 300 (dc_X10_holds 131 rfl) rfl (fun c289 => ?_) (fun c289 => ?_)
      · refine S_iload (dc_X10_holds 136 rfl) rfl ?_
        refine S_bipush_ 14 (dc_X10_holds 137 rfl) rfl ?_
        refine S_icmp_ne 315 (dc_X10_holds 138 rfl) rfl (fun c304 => ?_) (fun c304 => ?_)
        · refine S_iload (dc_X10_holds 143 rfl) rfl ?_
          refine S_bipush_ 15 (dc_X10_holds 144 rfl) rfl ?_
          refine S_icmp_ne 330 (dc_X10_holds 145 rfl) rfl (fun c319 => ?_) (fun c319 => ?_)
          · refine S_aload_n (dc_X10_holds 150 rfl) rfl ?_
            refine S_iload_n (dc_X10_holds 151 rfl) rfl ?_
            refine S_roI (d := k_d K - 1) (e_callV (b := a0) (As := [.int a2]) (rest := []) ok_X10_right rfl (Nat.le_of_ble_eq_true rfl) (dc_X10_holds 152 rfl) ho q1841 q1843 (show e_cl[8]? = some (RX10, TX10, 51) from rfl) (e_sel.of qs63) (e_fA_of e9).1 rfl (Nat.le_of_ble_eq_true rfl)) (by omega) (fun _ e => ct_X10_right (by omega) e) (fun x332 e332 => ?_)
            refine Sx.cut [true, false, false, true, false, true, false, true] ?_
            exact hK1 x332
          · refine S_aload_n (dc_X10_holds 146 rfl) rfl ?_
            refine S_iload_n (dc_X10_holds 147 rfl) rfl ?_
            refine S_roI (d := k_d K - 1) (e_callV (b := a0) (As := [.int a2]) (rest := []) ok_X10_corners rfl (Nat.le_of_ble_eq_true rfl) (dc_X10_holds 148 rfl) ho q1803 q1805 (show e_cl[8]? = some (RX10, TX10, 51) from rfl) (e_sel.of qs55) (e_fA_of e9).1 rfl (Nat.le_of_ble_eq_true rfl)) (by omega) (fun _ e => ct_X10_corners (by omega) e) (fun x324 e324 => ?_)
            refine S_goto 335 (dc_X10_holds 149 rfl) rfl ?_
            refine Sx.cut [true, false, false, true, false, true, false, true] ?_
            exact hK1 x324
        · refine S_aload_n (dc_X10_holds 139 rfl) rfl ?_
          refine S_iload_n (dc_X10_holds 140 rfl) rfl ?_
          refine S_roI (d := k_d K - 1) (e_callV (b := a0) (As := [.int a2]) (rest := []) ok_X10_within rfl (Nat.le_of_ble_eq_true rfl) (dc_X10_holds 141 rfl) ho q1833 q1835 (show e_cl[8]? = some (RX10, TX10, 51) from rfl) (e_sel.of qs61) (e_fA_of e9).1 rfl (Nat.le_of_ble_eq_true rfl)) (by omega) (fun _ e => ct_X10_within (by omega) e) (fun x309 e309 => ?_)
          refine S_goto 335 (dc_X10_holds 142 rfl) rfl ?_
          refine Sx.cut [true, false, false, true, false, true, false, true] ?_
          exact hK1 x309
      · refine S_aload_n (dc_X10_holds 132 rfl) rfl ?_
        refine S_iload_n (dc_X10_holds 133 rfl) rfl ?_
        refine S_roI (d := k_d K - 1) (e_callV (b := a0) (As := [.int a2]) (rest := []) ok_X10_onMany rfl (Nat.le_of_ble_eq_true rfl) (dc_X10_holds 134 rfl) ho q1826 q1828 (show e_cl[8]? = some (RX10, TX10, 51) from rfl) (e_sel.of qs60) (e_fA_of e9).1 rfl (Nat.le_of_ble_eq_true rfl)) (by omega) (fun _ e => ct_X10_onMany (by omega) e) (fun x294 e294 => ?_)
        refine S_goto 335 (dc_X10_holds 135 rfl) rfl ?_
        refine Sx.cut [true, false, false, true, false, true, false, true] ?_
        exact hK1 x294
    · refine S_aload_n (dc_X10_holds 125 rfl) rfl ?_
      refine S_iload_n (dc_X10_holds 126 rfl) rfl ?_
      refine S_roI (d := k_d K - 1) (e_callV (b := a0) (As := [.int a2]) (rest := []) ok_X10_area rfl (Nat.le_of_ble_eq_true rfl) (dc_X10_holds 127 rfl) ho q1807 q1809 (show e_cl[8]? = some (RX10, TX10, 51) from rfl) (e_sel.of qs56) (e_fA_of e9).1 rfl (Nat.le_of_ble_eq_true rfl)) (by omega) (fun _ e => ct_X10_area (by omega) e) (fun x279 e279 => ?_)
      refine S_goto 335 (dc_X10_holds 128 rfl) rfl ?_
      refine Sx.cut [true, false, false, true, false, true, false, true] ?_
      exact hK1 x279
def f_X10_holds (F : Nat) : Nat → e_H → Nat → Int32 → Int32 → Option (Int32 × e_H)
  | 0, _, _, _, _ => none
  | n + 1, h, a0, a1, a2 => fb_X10_holds F (f_X10_holds F n) h a0 a1 a2
theorem ct_X10_holds {l : Launch} {D : e_D} {B : Heap} {F : Nat} (n : Nat) : ∀ {d : Nat} {h : e_H} {a0 : Nat} {a1 : Int32} {a2 : Int32} {v : Int32} {h1 : e_H} (hd : 8 * n + 20 ≤ d) (e : f_X10_holds F n h a0 a1 a2 = some (v, h1)), e_Run l D B d mX10_holds [.ref a0, .int a1, .int a2] h (.ok (some (.int v)), h1) := by
  induction n with
  | zero => intros; rename_i e; cases e
  | succ n ih => intros; rename_i hd e; exact cb_X10_holds (dS := 8 * n + 20) (fun e => ih (Nat.le_refl _) e) (by omega) (by omega) e
abbrev cX10_said : ByteArray := prog_18_method_139_code
def yX10_said : MethodName := ⟨"PegBandsModel", "said", "(I)I"⟩
def tb_X10_said : List (Nat × Instr × Nat) := [(0, .aload_n 0, 1), (1, .iconst 0, 1), (2, .putfield 94, 3), (5, .aload_n 0, 1), (6, .getfield 13, 3), (9, .sipush 270, 3), (12, .iaload, 1), (13, .ifCond .ne 5, 3), (16, .iconst (-1), 1), (17, .ireturn, 1), (18, .iconst 0, 1), (19, .istore_n 2, 1), (20, .iconst 0, 1), (21, .istore_n 3, 1), (22, .iload_n 3, 1), (23, .aload_n 0, 1), (24, .invokevirtual 276, 3), (27, .if_icmp .ge 38, 3), (30, .aload_n 0, 1), (31, .aload_n 0, 1), (32, .getfield 13, 3), (35, .sipush 271, 3), (38, .iaload, 1), (39, .iload_n 3, 1), (40, .invokevirtual 486, 3), (43, .ifCond .ne 6, 3), (46, .goto 13, 3), (49, .iload_n 2, 1), (50, .iload_n 1, 1), (51, .if_icmp .ne 5, 3), (54, .iload_n 3, 1), (55, .ireturn, 1), (56, .iinc 2 1, 3), (59, .iinc 3 1, 3), (62, .goto (-40), 3), (65, .iload_n 1, 1), (66, .iconst (-1), 1), (67, .if_icmp .ne 7, 3), (70, .iload_n 2, 1), (71, .goto 4, 3), (74, .iconst (-1), 1), (75, .ireturn, 1)]
theorem tk_X10_said : ∀ q ∈ tb_X10_said, decode cX10_said q.1 = .ok q.2 := by decide +kernel
theorem dc_X10_said (k : Nat) {pc n : Nat} {i : Instr} (h : tb_X10_said[k]? = some (pc, i, n)) : decode cX10_said pc = .ok (i, n) := tk_X10_said (pc, i, n) (List.mem_of_getElem? h)
abbrev mX10_said : e_M := (yX10_said, cX10_said, 4, some (.int), [])
theorem ok_X10_said : e_mok mX10_said 1 := ⟨q2146, q119, by decide +kernel, fun sig h => by cases h; rfl⟩
def lp_X10_said_22 (F : Nat) (a0 : Nat) (a1 : Int32) : Nat → Int32 → Int32 → e_H → Option (Except (Int32 × e_H) (Int32 × e_H))
  | 0, _, _, _ => none
  | n + 1, x2_22, x3_22, h_22 =>
    Option.bind (e_is h_22 a0 8) (fun _ =>
    Option.bind (f_X10_bands h_22 a0) (fun x24 =>
    if x24 ≤ x3_22 then
      some (.ok (x2_22, h_22))
    else
      Option.bind (e_fA h_22 a0 8 15) (fun x32 =>
      Option.bind (e_aI h_22 x32 0 271) (fun x38 =>
      e_b2 (f_X10_holds F 32 h_22 a0 x38 x3_22) (fun x40 h40 =>
      e_bE (
          if x40 = 0 then
            some (.ok x2_22)
          else
            if x2_22 = a1 then
              some (.error (.error (x3_22, h40)))
            else
              Option.bind (some (x2_22 + 1)) (fun x56 =>
              some (.ok x56))
        : Option (Except (Except (Int32 × e_H) (Int32 × e_H)) Int32)) (fun x2_59_2 =>
      Option.bind (some (x3_22 + 1)) (fun x59 =>
      lp_X10_said_22 F a0 a1 n x2_59_2 x59 h40)))))))
def f_X10_said (F : Nat) (h : e_H) (a0 : Nat) (a1 : Int32) : Option (Int32 × e_H) :=
  Option.bind (e_gI h a0 8 0 0) (fun h2 =>
  Option.bind (e_fA h2 a0 8 15) (fun x6 =>
  Option.bind (e_aI h2 x6 0 270) (fun x12 =>
  if x12 = 0 then
    some ((-1), h2)
  else
    e_bE (
        lp_X10_said_22 F a0 a1 F 0 0 h2
      : Option (Except (Int32 × e_H) (Int32 × e_H))) (e_u2 (fun x2_65_1 h65_1 =>
    if a1 = (-1) then
      some (x2_65_1, h65_1)
    else
      some ((-1), h65_1))))))
set_option maxHeartbeats 4000000 in
set_option maxRecDepth 100000 in
theorem ct_X10_said {l : Launch} {D : e_D} {B : Heap} {F : Nat} {d : Nat} {h : e_H} {a0 : Nat} {a1 : Int32} {v : Int32} {h1 : e_H} (hd : 277 ≤ d) (e : f_X10_said F h a0 a1 = some (v, h1)) : e_Run l D B d mX10_said [.ref a0, .int a1] h (.ok (some (.int v)), h1) := by
  refine e_start [some (.ref a0), some (.int a1), none, none] (by decide) rfl rfl rfl (Nat.le_of_ble_eq_true rfl) (fun K hl0 hD0 hB0 hM hd0 hr => ?_)
  subst hl0 hD0 hB0 hd0
  have ho : (k_M K).1.cls = "PegBandsModel" := by rw [hM]; rfl
  have hT : (k_M K).2.2.2.1 = some (.int) := by rw [hM]
  refine (show Sx K cX10_said 0 [some (.ref a0), some (.int a1), none, none] [] h (f_X10_said F h a0 a1) (fun w => w = (v, h1)) from ?_) _ e rfl
  clear e
  unfold f_X10_said
  refine S_aload_n (dc_X10_said 0 rfl) rfl ?_
  refine S_iconst_ 0 (dc_X10_said 1 rfl) rfl ?_
  refine S_putI (dc_X10_said 2 rfl) ho fl_X10_94_8_0 (fun _ _ => rfl) (Or.inl rfl) rfl rfl (fun h2 e2 => ?_)
  refine S_aload_n (dc_X10_said 3 rfl) rfl ?_
  refine S_getA (dc_X10_said 4 rfl) ho fl_X10_13_8_15 (fun _ _ => rfl) (fun x6 e6 => ?_)
  refine S_sipush_ 270 (dc_X10_said 5 rfl) rfl ?_
  refine S_iald (dc_X10_said 6 rfl) (fun x12 e12 => ?_)
  refine S_if_ne 18 (dc_X10_said 7 rfl) rfl (fun c13 => ?_) (fun c13 => ?_)
  · refine S_iconst_ 0 (dc_X10_said 10 rfl) rfl ?_
    refine S_istore_n (L' := [some (.ref a0), some (.int a1), some (.int 0), none]) (dc_X10_said 11 rfl) rfl ?_
    refine S_iconst_ 0 (dc_X10_said 12 rfl) rfl ?_
    refine S_istore_n (L' := [some (.ref a0), some (.int a1), some (.int 0), some (.int 0)]) (dc_X10_said 13 rfl) rfl ?_
    refine Sx.regKE2 (pc2 := 65) (L2 := fun (x2_65_1 : Int32) (h65_1 : e_H) => [none, some (.int a1), some (.int x2_65_1), none]) (st2 := fun (x2_65_1 : Int32) (h65_1 : e_H) => []) (h2 := fun (x2_65_1 : Int32) (h65_1 : e_H) => h65_1) ?_ (fun Q1 hK1 hE1 => ?_)
    · intro x2_65_1 h65_1
      show Sx K cX10_said 65 [none, some (.int a1), some (.int x2_65_1), none] [] h65_1 _ _
      refine S_iload_n (dc_X10_said 35 rfl) rfl ?_
      refine S_iconst_ (-1) (dc_X10_said 36 rfl) rfl ?_
      refine S_icmp_ne 74 (dc_X10_said 37 rfl) rfl (fun c67 => ?_) (fun c67 => ?_)
      · refine S_iconst_ (-1) (dc_X10_said 40 rfl) rfl ?_
        exact S_iret (dc_X10_said 41 rfl) hT rfl (e_rqI hr)
      · refine S_iload_n (dc_X10_said 38 rfl) rfl ?_
        refine S_goto 75 (dc_X10_said 39 rfl) rfl ?_
        exact S_iret (dc_X10_said 41 rfl) hT rfl (e_rqI hr)
    · have hK1 : ∀ (x2_65_1 : Int32) (h65_1 : e_H), Sx K cX10_said 65 [none, some (.int a1), some (.int x2_65_1), none] [] h65_1 (some (.ok (x2_65_1, h65_1))) Q1 := hK1
      have ih1 : ∀ (n : Nat) (x2_22 : Int32) (x3_22 : Int32) (h_22 : e_H), Sx K cX10_said 22 [some (.ref a0), some (.int a1), some (.int x2_22), some (.int x3_22)] [] h_22 (lp_X10_said_22 F a0 a1 n x2_22 x3_22 h_22) Q1 := by
        intro n
        induction n with
        | zero => intro x2_22 x3_22 h_22; exact Sx.none
        | succ n ih1 =>
          intro x2_22 x3_22 h_22
          rw [lp_X10_said_22.eq_2]
          refine S_iload_n (dc_X10_said 14 rfl) rfl ?_
          refine S_aload_n (dc_X10_said 15 rfl) rfl ?_
          refine Sx.ask (fun _ i24 => ?_)
          refine S_roI (d := k_d K - 1) (e_callV (b := a0) (As := []) (rest := [.int x3_22]) ok_X10_bands rfl (Nat.le_of_ble_eq_true rfl) (dc_X10_said 16 rfl) ho q1795 q1797 (show e_cl[8]? = some (RX10, TX10, 51) from rfl) (e_sel.of qs53) (e_is_of i24) rfl (Nat.le_of_ble_eq_true rfl)) (by omega) (fun _ e => ct_X10_bands (by omega) e) (fun x24 e24 => ?_)
          refine S_icmp_ge 65 (dc_X10_said 17 rfl) rfl (fun c27 => ?_) (fun c27 => ?_)
          · refine Sx.cut [false, true, true, false] ?_
            exact hK1 x2_22 h_22
          · refine S_aload_n (dc_X10_said 18 rfl) rfl ?_
            refine S_aload_n (dc_X10_said 19 rfl) rfl ?_
            refine S_getA (dc_X10_said 20 rfl) ho fl_X10_13_8_15 (fun _ _ => rfl) (fun x32 e32 => ?_)
            refine S_sipush_ 271 (dc_X10_said 21 rfl) rfl ?_
            refine S_iald (dc_X10_said 22 rfl) (fun x38 e38 => ?_)
            refine S_iload_n (dc_X10_said 23 rfl) rfl ?_
            refine S_rwI (d := k_d K - 1) (e_callV (b := a0) (As := [.int x38, .int x3_22]) (rest := []) ok_X10_holds rfl (Nat.le_of_ble_eq_true rfl) (dc_X10_said 24 rfl) ho q2147 q2149 (show e_cl[8]? = some (RX10, TX10, 51) from rfl) (e_sel.of qs106) (e_is_of i24) rfl (Nat.le_of_ble_eq_true rfl)) (by omega) (fun _ _ e => ct_X10_holds 32 (by omega) e) (fun x40 h40 e40 => ?_)
            refine Sx.regKE1 (pc2 := 59) (L2 := fun (x2_59_2 : Int32) => [some (.ref a0), some (.int a1), some (.int x2_59_2), some (.int x3_22)]) (st2 := fun (x2_59_2 : Int32) => []) (h2 := fun (x2_59_2 : Int32) => h40) ?_ (fun Q2 hK2 hE2 => ?_)
            · intro x2_59_2
              show Sx K cX10_said 59 [some (.ref a0), some (.int a1), some (.int x2_59_2), some (.int x3_22)] [] h40 _ _
              refine S_iincN 1 (L' := fun x59 => [some (.ref a0), some (.int a1), some (.int x2_59_2), some (.int x59)]) (dc_X10_said 33 rfl) rfl rfl (fun _ => rfl) (fun x59 n59 => ?_)
              refine S_goto 22 (dc_X10_said 34 rfl) rfl ?_
              exact ih1 x2_59_2 x59 h40
            · have hK2 : ∀ (x2_59_2 : Int32), Sx K cX10_said 59 [some (.ref a0), some (.int a1), some (.int x2_59_2), some (.int x3_22)] [] h40 (some (.ok x2_59_2)) Q2 := hK2
              refine S_if_ne 49 (dc_X10_said 25 rfl) rfl (fun c43 => ?_) (fun c43 => ?_)
              · refine S_iload_n (dc_X10_said 27 rfl) rfl ?_
                refine S_iload_n (dc_X10_said 28 rfl) rfl ?_
                refine S_icmp_ne 56 (dc_X10_said 29 rfl) rfl (fun c51 => ?_) (fun c51 => ?_)
                · refine S_iincN 1 (L' := fun x56 => [some (.ref a0), some (.int a1), some (.int x56), some (.int x3_22)]) (dc_X10_said 32 rfl) rfl rfl (fun _ => rfl) (fun x56 n56 => ?_)
                  exact hK2 x56
                · refine S_iload_n (dc_X10_said 30 rfl) rfl ?_
                  refine Sx.err hE2 ?_
                  refine Sx.err hE1 ?_
                  exact S_iret (dc_X10_said 31 rfl) hT rfl (e_rqI hr)
              · refine S_goto 59 (dc_X10_said 26 rfl) rfl ?_
                exact hK2 x2_22
      exact ih1 F 0 0 h2
  · refine S_iconst_ (-1) (dc_X10_said 8 rfl) rfl ?_
    exact S_iret (dc_X10_said 9 rfl) hT rfl (e_rqI hr)
abbrev cX10_image : ByteArray := prog_18_method_140_code
def yX10_image : MethodName := ⟨"PegBandsModel", "image", "(I)Z"⟩
def tb_X10_image : List (Nat × Instr × Nat) := [(0, .aload_n 0, 1), (1, .iconst 0, 1), (2, .putfield 94, 3), (5, .iload_n 1, 1), (6, .iconst 0, 1), (7, .iconst 1, 1), (8, .invokestatic 168, 3), (11, .ifCond .ne 5, 3), (14, .iconst 0, 1), (15, .ireturn, 1), (16, .iconst 0, 1), (17, .istore_n 2, 1), (18, .iload_n 2, 1), (19, .sipush 512, 3), (22, .if_icmp .ge 27, 3), (25, .aload_n 0, 1), (26, .getfield 22, 3), (29, .sipush 512, 3), (32, .iload_n 1, 1), (33, .imul, 1), (34, .iload_n 2, 1), (35, .iadd, 1), (36, .aload_n 0, 1), (37, .getfield 13, 3), (40, .iload_n 2, 1), (41, .iaload, 1), (42, .iastore, 1), (43, .iinc 2 1, 3), (46, .goto (-28), 3), (49, .iconst 0, 1), (50, .istore_n 2, 1), (51, .iload_n 2, 1), (52, .bipush 8, 2), (54, .if_icmp .ge 26, 3), (57, .aload_n 0, 1), (58, .getfield 41, 3), (61, .bipush 8, 2), (63, .iload_n 1, 1), (64, .imul, 1), (65, .iload_n 2, 1), (66, .iadd, 1), (67, .aload_n 0, 1), (68, .getfield 28, 3), (71, .iload_n 2, 1), (72, .laload, 1), (73, .lastore, 1), (74, .iinc 2 1, 3), (77, .goto (-26), 3), (80, .iconst 0, 1), (81, .istore_n 2, 1), (82, .iload_n 2, 1), (83, .bipush 20, 2), (85, .if_icmp .ge 26, 3), (88, .aload_n 0, 1), (89, .getfield 44, 3), (92, .bipush 20, 2), (94, .iload_n 1, 1), (95, .imul, 1), (96, .iload_n 2, 1), (97, .iadd, 1), (98, .aload_n 0, 1), (99, .getfield 38, 3), (102, .iload_n 2, 1), (103, .laload, 1), (104, .lastore, 1), (105, .iinc 2 1, 3), (108, .goto (-26), 3), (111, .aload_n 0, 1), (112, .getfield 47, 3), (115, .iload_n 1, 1), (116, .iconst 1, 1), (117, .bastore, 1), (118, .iconst 1, 1), (119, .ireturn, 1)]
theorem tk_X10_image : ∀ q ∈ tb_X10_image, decode cX10_image q.1 = .ok q.2 := by decide +kernel
theorem dc_X10_image (k : Nat) {pc n : Nat} {i : Instr} (h : tb_X10_image[k]? = some (pc, i, n)) : decode cX10_image pc = .ok (i, n) := tk_X10_image (pc, i, n) (List.mem_of_getElem? h)
abbrev mX10_image : e_M := (yX10_image, cX10_image, 3, some (.boolean), [])
theorem ok_X10_image : e_mok mX10_image 1 := ⟨q2154, q119, by decide +kernel, fun sig h => by cases h; rfl⟩
def lp_X10_image_18 (F : Nat) (a0 : Nat) (a1 : Int32) : Nat → Int32 → e_H → Option (e_H)
  | 0, _, _ => none
  | n + 1, x2_18, h_18 =>
    if 512 ≤ x2_18 then
      some h_18
    else
      Option.bind (e_fA h_18 a0 8 18) (fun x26 =>
      Option.bind (e_fA h_18 a0 8 15) (fun x37 =>
      Option.bind (e_aI h_18 x37 0 x2_18) (fun x41 =>
      Option.bind (e_wI h_18 x26 0 ((512 * a1) + x2_18) x41) (fun h42 =>
      Option.bind (some (x2_18 + 1)) (fun x43 =>
      lp_X10_image_18 F a0 a1 n x43 h42)))))
def lp_X10_image_51 (F : Nat) (a0 : Nat) (a1 : Int32) : Nat → Int32 → e_H → Option (e_H)
  | 0, _, _ => none
  | n + 1, x2_51, h_51 =>
    if 8 ≤ x2_51 then
      some h_51
    else
      Option.bind (e_fA h_51 a0 8 24) (fun x58 =>
      Option.bind (e_fA h_51 a0 8 20) (fun x68 =>
      Option.bind (e_aJ h_51 x68 3 x2_51) (fun x72 =>
      Option.bind (e_wJ h_51 x58 3 ((8 * a1) + x2_51) x72) (fun h73 =>
      Option.bind (some (x2_51 + 1)) (fun x74 =>
      lp_X10_image_51 F a0 a1 n x74 h73)))))
def lp_X10_image_82 (F : Nat) (a0 : Nat) (a1 : Int32) : Nat → Int32 → e_H → Option (e_H)
  | 0, _, _ => none
  | n + 1, x2_82, h_82 =>
    if 20 ≤ x2_82 then
      some h_82
    else
      Option.bind (e_fA h_82 a0 8 25) (fun x89 =>
      Option.bind (e_fA h_82 a0 8 23) (fun x99 =>
      Option.bind (e_aJ h_82 x99 3 x2_82) (fun x103 =>
      Option.bind (e_wJ h_82 x89 3 ((20 * a1) + x2_82) x103) (fun h104 =>
      Option.bind (some (x2_82 + 1)) (fun x105 =>
      lp_X10_image_82 F a0 a1 n x105 h104)))))
def f_X10_image (F : Nat) (h : e_H) (a0 : Nat) (a1 : Int32) : Option (Int32 × e_H) :=
  Option.bind (e_gI h a0 8 0 0) (fun h2 =>
  Option.bind (f_X10_isIn a1 0 1) (fun x8 =>
  if x8 = 0 then
    some (0, h2)
  else
    Option.bind (
        lp_X10_image_18 F a0 a1 F 0 h2
      : Option (e_H)) (fun h49_1 =>
    Option.bind (
        lp_X10_image_51 F a0 a1 F 0 h49_1
      : Option (e_H)) (fun h80_2 =>
    Option.bind (
        lp_X10_image_82 F a0 a1 F 0 h80_2
      : Option (e_H)) (fun h111_3 =>
    Option.bind (e_fA h111_3 a0 8 26) (fun x112 =>
    Option.bind (e_wI h111_3 x112 2 a1 1) (fun h117 =>
    some (1, h117))))))))
set_option maxHeartbeats 4000000 in
set_option maxRecDepth 100000 in
theorem ct_X10_image {l : Launch} {D : e_D} {B : Heap} {F : Nat} {d : Nat} {h : e_H} {a0 : Nat} {a1 : Int32} {v : Int32} {h1 : e_H} (hd : 2 ≤ d) (e : f_X10_image F h a0 a1 = some (v, h1)) : e_Run l D B d mX10_image [.ref a0, .int a1] h (.ok (some (.int v)), h1) := by
  refine e_start [some (.ref a0), some (.int a1), none] (by decide) rfl rfl rfl (Nat.le_of_ble_eq_true rfl) (fun K hl0 hD0 hB0 hM hd0 hr => ?_)
  subst hl0 hD0 hB0 hd0
  have ho : (k_M K).1.cls = "PegBandsModel" := by rw [hM]; rfl
  have hT : (k_M K).2.2.2.1 = some (.boolean) := by rw [hM]
  refine (show Sx K cX10_image 0 [some (.ref a0), some (.int a1), none] [] h (f_X10_image F h a0 a1) (fun w => w = (v, h1)) from ?_) _ e rfl
  clear e
  unfold f_X10_image
  refine S_aload_n (dc_X10_image 0 rfl) rfl ?_
  refine S_iconst_ 0 (dc_X10_image 1 rfl) rfl ?_
  refine S_putI (dc_X10_image 2 rfl) ho fl_X10_94_8_0 (fun _ _ => rfl) (Or.inl rfl) rfl rfl (fun h2 e2 => ?_)
  refine S_iload_n (dc_X10_image 3 rfl) rfl ?_
  refine S_iconst_ 0 (dc_X10_image 4 rfl) rfl ?_
  refine S_iconst_ 1 (dc_X10_image 5 rfl) rfl ?_
  refine S_roI (d := k_d K - 1) (e_callS (As := [.int a1, .int 0, .int 1]) (rest := []) ok_X10_isIn rfl (Nat.le_of_ble_eq_true rfl) (dc_X10_image 6 rfl) ho q1699 q1700 rfl (Nat.le_of_ble_eq_true rfl)) (by omega) (fun _ e => ct_X10_isIn (by omega) e) (fun x8 e8 => ?_)
  refine S_if_ne 16 (dc_X10_image 7 rfl) rfl (fun c11 => ?_) (fun c11 => ?_)
  · refine S_iconst_ 0 (dc_X10_image 10 rfl) rfl ?_
    refine S_istore_n (L' := [some (.ref a0), some (.int a1), some (.int 0)]) (dc_X10_image 11 rfl) rfl ?_
    refine Sx.regK1 (pc2 := 49) (L2 := fun (h49_1 : e_H) => [some (.ref a0), some (.int a1), none]) (st2 := fun (h49_1 : e_H) => []) (h2 := fun (h49_1 : e_H) => h49_1) ?_ (fun Q1 hK1 => ?_)
    · intro h49_1
      show Sx K cX10_image 49 [some (.ref a0), some (.int a1), none] [] h49_1 _ _
      refine S_iconst_ 0 (dc_X10_image 29 rfl) rfl ?_
      refine S_istore_n (L' := [some (.ref a0), some (.int a1), some (.int 0)]) (dc_X10_image 30 rfl) rfl ?_
      refine Sx.regK1 (pc2 := 80) (L2 := fun (h80_2 : e_H) => [some (.ref a0), some (.int a1), none]) (st2 := fun (h80_2 : e_H) => []) (h2 := fun (h80_2 : e_H) => h80_2) ?_ (fun Q2 hK2 => ?_)
      · intro h80_2
        show Sx K cX10_image 80 [some (.ref a0), some (.int a1), none] [] h80_2 _ _
        refine S_iconst_ 0 (dc_X10_image 48 rfl) rfl ?_
        refine S_istore_n (L' := [some (.ref a0), some (.int a1), some (.int 0)]) (dc_X10_image 49 rfl) rfl ?_
        refine Sx.regK1 (pc2 := 111) (L2 := fun (h111_3 : e_H) => [some (.ref a0), some (.int a1), none]) (st2 := fun (h111_3 : e_H) => []) (h2 := fun (h111_3 : e_H) => h111_3) ?_ (fun Q3 hK3 => ?_)
        · intro h111_3
          show Sx K cX10_image 111 [some (.ref a0), some (.int a1), none] [] h111_3 _ _
          refine S_aload_n (dc_X10_image 67 rfl) rfl ?_
          refine S_getA (dc_X10_image 68 rfl) ho fl_X10_47_8_26 (fun _ _ => rfl) (fun x112 e112 => ?_)
          refine S_iload_n (dc_X10_image 69 rfl) rfl ?_
          refine S_iconst_ 1 (dc_X10_image 70 rfl) rfl ?_
          refine S_zast (dc_X10_image 71 rfl) rfl (fun h117 e117 => ?_)
          refine S_iconst_ 1 (dc_X10_image 72 rfl) rfl ?_
          exact S_iret (dc_X10_image 73 rfl) hT rfl (e_rqI hr)
        · have hK3 : ∀ (h111_3 : e_H), Sx K cX10_image 111 [some (.ref a0), some (.int a1), none] [] h111_3 (some h111_3) Q3 := hK3
          have ih3 : ∀ (n : Nat) (x2_82 : Int32) (h_82 : e_H), Sx K cX10_image 82 [some (.ref a0), some (.int a1), some (.int x2_82)] [] h_82 (lp_X10_image_82 F a0 a1 n x2_82 h_82) Q3 := by
            intro n
            induction n with
            | zero => intro x2_82 h_82; exact Sx.none
            | succ n ih3 =>
              intro x2_82 h_82
              rw [lp_X10_image_82.eq_2]
              refine S_iload_n (dc_X10_image 50 rfl) rfl ?_
              refine S_bipush_ 20 (dc_X10_image 51 rfl) rfl ?_
              refine S_icmp_ge 111 (dc_X10_image 52 rfl) rfl (fun c85 => ?_) (fun c85 => ?_)
              · refine Sx.cut [true, true, false] ?_
                exact hK3 h_82
              · refine S_aload_n (dc_X10_image 53 rfl) rfl ?_
                refine S_getA (dc_X10_image 54 rfl) ho fl_X10_44_8_25 (fun _ _ => rfl) (fun x89 e89 => ?_)
                refine S_bipush_ 20 (dc_X10_image 55 rfl) rfl ?_
                refine S_iload_n (dc_X10_image 56 rfl) rfl ?_
                refine S_imul (dc_X10_image 57 rfl) ?_
                refine S_iload_n (dc_X10_image 58 rfl) rfl ?_
                refine S_iadd (dc_X10_image 59 rfl) ?_
                refine S_aload_n (dc_X10_image 60 rfl) rfl ?_
                refine S_getA (dc_X10_image 61 rfl) ho fl_X10_38_8_23 (fun _ _ => rfl) (fun x99 e99 => ?_)
                refine S_iload_n (dc_X10_image 62 rfl) rfl ?_
                refine S_lald (dc_X10_image 63 rfl) (fun x103 e103 => ?_)
                refine S_last (dc_X10_image 64 rfl) (fun h104 e104 => ?_)
                refine S_iincN 1 (L' := fun x105 => [some (.ref a0), some (.int a1), some (.int x105)]) (dc_X10_image 65 rfl) rfl rfl (fun _ => rfl) (fun x105 n105 => ?_)
                refine S_goto 82 (dc_X10_image 66 rfl) rfl ?_
                exact ih3 x105 h104
          exact ih3 F 0 h80_2
      · have hK2 : ∀ (h80_2 : e_H), Sx K cX10_image 80 [some (.ref a0), some (.int a1), none] [] h80_2 (some h80_2) Q2 := hK2
        have ih2 : ∀ (n : Nat) (x2_51 : Int32) (h_51 : e_H), Sx K cX10_image 51 [some (.ref a0), some (.int a1), some (.int x2_51)] [] h_51 (lp_X10_image_51 F a0 a1 n x2_51 h_51) Q2 := by
          intro n
          induction n with
          | zero => intro x2_51 h_51; exact Sx.none
          | succ n ih2 =>
            intro x2_51 h_51
            rw [lp_X10_image_51.eq_2]
            refine S_iload_n (dc_X10_image 31 rfl) rfl ?_
            refine S_bipush_ 8 (dc_X10_image 32 rfl) rfl ?_
            refine S_icmp_ge 80 (dc_X10_image 33 rfl) rfl (fun c54 => ?_) (fun c54 => ?_)
            · refine Sx.cut [true, true, false] ?_
              exact hK2 h_51
            · refine S_aload_n (dc_X10_image 34 rfl) rfl ?_
              refine S_getA (dc_X10_image 35 rfl) ho fl_X10_41_8_24 (fun _ _ => rfl) (fun x58 e58 => ?_)
              refine S_bipush_ 8 (dc_X10_image 36 rfl) rfl ?_
              refine S_iload_n (dc_X10_image 37 rfl) rfl ?_
              refine S_imul (dc_X10_image 38 rfl) ?_
              refine S_iload_n (dc_X10_image 39 rfl) rfl ?_
              refine S_iadd (dc_X10_image 40 rfl) ?_
              refine S_aload_n (dc_X10_image 41 rfl) rfl ?_
              refine S_getA (dc_X10_image 42 rfl) ho fl_X10_28_8_20 (fun _ _ => rfl) (fun x68 e68 => ?_)
              refine S_iload_n (dc_X10_image 43 rfl) rfl ?_
              refine S_lald (dc_X10_image 44 rfl) (fun x72 e72 => ?_)
              refine S_last (dc_X10_image 45 rfl) (fun h73 e73 => ?_)
              refine S_iincN 1 (L' := fun x74 => [some (.ref a0), some (.int a1), some (.int x74)]) (dc_X10_image 46 rfl) rfl rfl (fun _ => rfl) (fun x74 n74 => ?_)
              refine S_goto 51 (dc_X10_image 47 rfl) rfl ?_
              exact ih2 x74 h73
        exact ih2 F 0 h49_1
    · have hK1 : ∀ (h49_1 : e_H), Sx K cX10_image 49 [some (.ref a0), some (.int a1), none] [] h49_1 (some h49_1) Q1 := hK1
      have ih1 : ∀ (n : Nat) (x2_18 : Int32) (h_18 : e_H), Sx K cX10_image 18 [some (.ref a0), some (.int a1), some (.int x2_18)] [] h_18 (lp_X10_image_18 F a0 a1 n x2_18 h_18) Q1 := by
        intro n
        induction n with
        | zero => intro x2_18 h_18; exact Sx.none
        | succ n ih1 =>
          intro x2_18 h_18
          rw [lp_X10_image_18.eq_2]
          refine S_iload_n (dc_X10_image 12 rfl) rfl ?_
          refine S_sipush_ 512 (dc_X10_image 13 rfl) rfl ?_
          refine S_icmp_ge 49 (dc_X10_image 14 rfl) rfl (fun c22 => ?_) (fun c22 => ?_)
          · refine Sx.cut [true, true, false] ?_
            exact hK1 h_18
          · refine S_aload_n (dc_X10_image 15 rfl) rfl ?_
            refine S_getA (dc_X10_image 16 rfl) ho fl_X10_22_8_18 (fun _ _ => rfl) (fun x26 e26 => ?_)
            refine S_sipush_ 512 (dc_X10_image 17 rfl) rfl ?_
            refine S_iload_n (dc_X10_image 18 rfl) rfl ?_
            refine S_imul (dc_X10_image 19 rfl) ?_
            refine S_iload_n (dc_X10_image 20 rfl) rfl ?_
            refine S_iadd (dc_X10_image 21 rfl) ?_
            refine S_aload_n (dc_X10_image 22 rfl) rfl ?_
            refine S_getA (dc_X10_image 23 rfl) ho fl_X10_13_8_15 (fun _ _ => rfl) (fun x37 e37 => ?_)
            refine S_iload_n (dc_X10_image 24 rfl) rfl ?_
            refine S_iald (dc_X10_image 25 rfl) (fun x41 e41 => ?_)
            refine S_iast (dc_X10_image 26 rfl) (fun h42 e42 => ?_)
            refine S_iincN 1 (L' := fun x43 => [some (.ref a0), some (.int a1), some (.int x43)]) (dc_X10_image 27 rfl) rfl rfl (fun _ => rfl) (fun x43 n43 => ?_)
            refine S_goto 18 (dc_X10_image 28 rfl) rfl ?_
            exact ih1 x43 h42
      exact ih1 F 0 h2
  · refine S_iconst_ 0 (dc_X10_image 8 rfl) rfl ?_
    exact S_iret (dc_X10_image 9 rfl) hT rfl (e_rqI hr)
abbrev cX10_restore : ByteArray := prog_18_method_141_code
def yX10_restore : MethodName := ⟨"PegBandsModel", "restore", "(I)Z"⟩
def tb_X10_restore : List (Nat × Instr × Nat) := [(0, .aload_n 0, 1), (1, .iconst 0, 1), (2, .putfield 94, 3), (5, .iload_n 1, 1), (6, .iconst 0, 1), (7, .iconst 1, 1), (8, .invokestatic 168, 3), (11, .ifCond .eq 12, 3), (14, .aload_n 0, 1), (15, .getfield 47, 3), (18, .iload_n 1, 1), (19, .baload, 1), (20, .ifCond .ne 5, 3), (23, .iconst 0, 1), (24, .ireturn, 1), (25, .iconst 0, 1), (26, .istore_n 2, 1), (27, .iload_n 2, 1), (28, .sipush 512, 3), (31, .if_icmp .ge 27, 3), (34, .aload_n 0, 1), (35, .getfield 13, 3), (38, .iload_n 2, 1), (39, .aload_n 0, 1), (40, .getfield 22, 3), (43, .sipush 512, 3), (46, .iload_n 1, 1), (47, .imul, 1), (48, .iload_n 2, 1), (49, .iadd, 1), (50, .iaload, 1), (51, .iastore, 1), (52, .iinc 2 1, 3), (55, .goto (-28), 3), (58, .iconst 0, 1), (59, .istore_n 2, 1), (60, .iload_n 2, 1), (61, .bipush 8, 2), (63, .if_icmp .ge 26, 3), (66, .aload_n 0, 1), (67, .getfield 28, 3), (70, .iload_n 2, 1), (71, .aload_n 0, 1), (72, .getfield 41, 3), (75, .bipush 8, 2), (77, .iload_n 1, 1), (78, .imul, 1), (79, .iload_n 2, 1), (80, .iadd, 1), (81, .laload, 1), (82, .lastore, 1), (83, .iinc 2 1, 3), (86, .goto (-26), 3), (89, .iconst 0, 1), (90, .istore_n 2, 1), (91, .iload_n 2, 1), (92, .bipush 20, 2), (94, .if_icmp .ge 26, 3), (97, .aload_n 0, 1), (98, .getfield 38, 3), (101, .iload_n 2, 1), (102, .aload_n 0, 1), (103, .getfield 44, 3), (106, .bipush 20, 2), (108, .iload_n 1, 1), (109, .imul, 1), (110, .iload_n 2, 1), (111, .iadd, 1), (112, .laload, 1), (113, .lastore, 1), (114, .iinc 2 1, 3), (117, .goto (-26), 3), (120, .aload_n 0, 1), (121, .iconst 0, 1), (122, .putfield 273, 3), (125, .iconst 1, 1), (126, .ireturn, 1)]
theorem tk_X10_restore : ∀ q ∈ tb_X10_restore, decode cX10_restore q.1 = .ok q.2 := by decide +kernel
theorem dc_X10_restore (k : Nat) {pc n : Nat} {i : Instr} (h : tb_X10_restore[k]? = some (pc, i, n)) : decode cX10_restore pc = .ok (i, n) := tk_X10_restore (pc, i, n) (List.mem_of_getElem? h)
abbrev mX10_restore : e_M := (yX10_restore, cX10_restore, 3, some (.boolean), [])
theorem ok_X10_restore : e_mok mX10_restore 1 := ⟨q2158, q119, by decide +kernel, fun sig h => by cases h; rfl⟩
def lp_X10_restore_27 (F : Nat) (a0 : Nat) (a1 : Int32) : Nat → Int32 → e_H → Option (e_H)
  | 0, _, _ => none
  | n + 1, x2_27, h_27 =>
    if 512 ≤ x2_27 then
      some h_27
    else
      Option.bind (e_fA h_27 a0 8 15) (fun x35 =>
      Option.bind (e_fA h_27 a0 8 18) (fun x40 =>
      Option.bind (e_aI h_27 x40 0 ((512 * a1) + x2_27)) (fun x50 =>
      Option.bind (e_wI h_27 x35 0 x2_27 x50) (fun h51 =>
      Option.bind (some (x2_27 + 1)) (fun x52 =>
      lp_X10_restore_27 F a0 a1 n x52 h51)))))
def lp_X10_restore_60 (F : Nat) (a0 : Nat) (a1 : Int32) : Nat → Int32 → e_H → Option (e_H)
  | 0, _, _ => none
  | n + 1, x2_60, h_60 =>
    if 8 ≤ x2_60 then
      some h_60
    else
      Option.bind (e_fA h_60 a0 8 20) (fun x67 =>
      Option.bind (e_fA h_60 a0 8 24) (fun x72 =>
      Option.bind (e_aJ h_60 x72 3 ((8 * a1) + x2_60)) (fun x81 =>
      Option.bind (e_wJ h_60 x67 3 x2_60 x81) (fun h82 =>
      Option.bind (some (x2_60 + 1)) (fun x83 =>
      lp_X10_restore_60 F a0 a1 n x83 h82)))))
def lp_X10_restore_91 (F : Nat) (a0 : Nat) (a1 : Int32) : Nat → Int32 → e_H → Option (e_H)
  | 0, _, _ => none
  | n + 1, x2_91, h_91 =>
    if 20 ≤ x2_91 then
      some h_91
    else
      Option.bind (e_fA h_91 a0 8 23) (fun x98 =>
      Option.bind (e_fA h_91 a0 8 25) (fun x103 =>
      Option.bind (e_aJ h_91 x103 3 ((20 * a1) + x2_91)) (fun x112 =>
      Option.bind (e_wJ h_91 x98 3 x2_91 x112) (fun h113 =>
      Option.bind (some (x2_91 + 1)) (fun x114 =>
      lp_X10_restore_91 F a0 a1 n x114 h113)))))
def f_X10_restore (F : Nat) (h : e_H) (a0 : Nat) (a1 : Int32) : Option (Int32 × e_H) :=
  Option.bind (e_gI h a0 8 0 0) (fun h2 =>
  Option.bind (f_X10_isIn a1 0 1) (fun x8 =>
  if x8 = 0 then
    some (0, h2)
  else
    Option.bind (e_fA h2 a0 8 26) (fun x15 =>
    Option.bind (e_aI h2 x15 2 a1) (fun x19 =>
    if x19 = 0 then
      some (0, h2)
    else
      Option.bind (
          lp_X10_restore_27 F a0 a1 F 0 h2
        : Option (e_H)) (fun h58_1 =>
      Option.bind (
          lp_X10_restore_60 F a0 a1 F 0 h58_1
        : Option (e_H)) (fun h89_2 =>
      Option.bind (
          lp_X10_restore_91 F a0 a1 F 0 h89_2
        : Option (e_H)) (fun h120_3 =>
      Option.bind (e_gI h120_3 a0 8 27 0) (fun h122 =>
      some (1, h122)))))))))
set_option maxHeartbeats 4000000 in
set_option maxRecDepth 100000 in
theorem ct_X10_restore {l : Launch} {D : e_D} {B : Heap} {F : Nat} {d : Nat} {h : e_H} {a0 : Nat} {a1 : Int32} {v : Int32} {h1 : e_H} (hd : 2 ≤ d) (e : f_X10_restore F h a0 a1 = some (v, h1)) : e_Run l D B d mX10_restore [.ref a0, .int a1] h (.ok (some (.int v)), h1) := by
  refine e_start [some (.ref a0), some (.int a1), none] (by decide) rfl rfl rfl (Nat.le_of_ble_eq_true rfl) (fun K hl0 hD0 hB0 hM hd0 hr => ?_)
  subst hl0 hD0 hB0 hd0
  have ho : (k_M K).1.cls = "PegBandsModel" := by rw [hM]; rfl
  have hT : (k_M K).2.2.2.1 = some (.boolean) := by rw [hM]
  refine (show Sx K cX10_restore 0 [some (.ref a0), some (.int a1), none] [] h (f_X10_restore F h a0 a1) (fun w => w = (v, h1)) from ?_) _ e rfl
  clear e
  unfold f_X10_restore
  refine S_aload_n (dc_X10_restore 0 rfl) rfl ?_
  refine S_iconst_ 0 (dc_X10_restore 1 rfl) rfl ?_
  refine S_putI (dc_X10_restore 2 rfl) ho fl_X10_94_8_0 (fun _ _ => rfl) (Or.inl rfl) rfl rfl (fun h2 e2 => ?_)
  refine S_iload_n (dc_X10_restore 3 rfl) rfl ?_
  refine S_iconst_ 0 (dc_X10_restore 4 rfl) rfl ?_
  refine S_iconst_ 1 (dc_X10_restore 5 rfl) rfl ?_
  refine S_roI (d := k_d K - 1) (e_callS (As := [.int a1, .int 0, .int 1]) (rest := []) ok_X10_isIn rfl (Nat.le_of_ble_eq_true rfl) (dc_X10_restore 6 rfl) ho q1699 q1700 rfl (Nat.le_of_ble_eq_true rfl)) (by omega) (fun _ e => ct_X10_isIn (by omega) e) (fun x8 e8 => ?_)
  refine S_if_eq 23 (dc_X10_restore 7 rfl) rfl (fun c11 => ?_) (fun c11 => ?_)
  · refine S_iconst_ 0 (dc_X10_restore 13 rfl) rfl ?_
    exact S_iret (dc_X10_restore 14 rfl) hT rfl (e_rqI hr)
  · refine S_aload_n (dc_X10_restore 8 rfl) rfl ?_
    refine S_getA (dc_X10_restore 9 rfl) ho fl_X10_47_8_26 (fun _ _ => rfl) (fun x15 e15 => ?_)
    refine S_iload_n (dc_X10_restore 10 rfl) rfl ?_
    refine S_zald (dc_X10_restore 11 rfl) (fun x19 e19 => ?_)
    refine S_if_ne 25 (dc_X10_restore 12 rfl) rfl (fun c20 => ?_) (fun c20 => ?_)
    · refine S_iconst_ 0 (dc_X10_restore 15 rfl) rfl ?_
      refine S_istore_n (L' := [some (.ref a0), some (.int a1), some (.int 0)]) (dc_X10_restore 16 rfl) rfl ?_
      refine Sx.regK1 (pc2 := 58) (L2 := fun (h58_1 : e_H) => [some (.ref a0), some (.int a1), none]) (st2 := fun (h58_1 : e_H) => []) (h2 := fun (h58_1 : e_H) => h58_1) ?_ (fun Q1 hK1 => ?_)
      · intro h58_1
        show Sx K cX10_restore 58 [some (.ref a0), some (.int a1), none] [] h58_1 _ _
        refine S_iconst_ 0 (dc_X10_restore 34 rfl) rfl ?_
        refine S_istore_n (L' := [some (.ref a0), some (.int a1), some (.int 0)]) (dc_X10_restore 35 rfl) rfl ?_
        refine Sx.regK1 (pc2 := 89) (L2 := fun (h89_2 : e_H) => [some (.ref a0), some (.int a1), none]) (st2 := fun (h89_2 : e_H) => []) (h2 := fun (h89_2 : e_H) => h89_2) ?_ (fun Q2 hK2 => ?_)
        · intro h89_2
          show Sx K cX10_restore 89 [some (.ref a0), some (.int a1), none] [] h89_2 _ _
          refine S_iconst_ 0 (dc_X10_restore 53 rfl) rfl ?_
          refine S_istore_n (L' := [some (.ref a0), some (.int a1), some (.int 0)]) (dc_X10_restore 54 rfl) rfl ?_
          refine Sx.regK1 (pc2 := 120) (L2 := fun (h120_3 : e_H) => [some (.ref a0), none, none]) (st2 := fun (h120_3 : e_H) => []) (h2 := fun (h120_3 : e_H) => h120_3) ?_ (fun Q3 hK3 => ?_)
          · intro h120_3
            show Sx K cX10_restore 120 [some (.ref a0), none, none] [] h120_3 _ _
            refine S_aload_n (dc_X10_restore 72 rfl) rfl ?_
            refine S_iconst_ 0 (dc_X10_restore 73 rfl) rfl ?_
            refine S_putI (dc_X10_restore 74 rfl) ho fl_X10_273_8_27 (fun _ _ => rfl) (Or.inl rfl) rfl rfl (fun h122 e122 => ?_)
            refine S_iconst_ 1 (dc_X10_restore 75 rfl) rfl ?_
            exact S_iret (dc_X10_restore 76 rfl) hT rfl (e_rqI hr)
          · have hK3 : ∀ (h120_3 : e_H), Sx K cX10_restore 120 [some (.ref a0), none, none] [] h120_3 (some h120_3) Q3 := hK3
            have ih3 : ∀ (n : Nat) (x2_91 : Int32) (h_91 : e_H), Sx K cX10_restore 91 [some (.ref a0), some (.int a1), some (.int x2_91)] [] h_91 (lp_X10_restore_91 F a0 a1 n x2_91 h_91) Q3 := by
              intro n
              induction n with
              | zero => intro x2_91 h_91; exact Sx.none
              | succ n ih3 =>
                intro x2_91 h_91
                rw [lp_X10_restore_91.eq_2]
                refine S_iload_n (dc_X10_restore 55 rfl) rfl ?_
                refine S_bipush_ 20 (dc_X10_restore 56 rfl) rfl ?_
                refine S_icmp_ge 120 (dc_X10_restore 57 rfl) rfl (fun c94 => ?_) (fun c94 => ?_)
                · refine Sx.cut [true, false, false] ?_
                  exact hK3 h_91
                · refine S_aload_n (dc_X10_restore 58 rfl) rfl ?_
                  refine S_getA (dc_X10_restore 59 rfl) ho fl_X10_38_8_23 (fun _ _ => rfl) (fun x98 e98 => ?_)
                  refine S_iload_n (dc_X10_restore 60 rfl) rfl ?_
                  refine S_aload_n (dc_X10_restore 61 rfl) rfl ?_
                  refine S_getA (dc_X10_restore 62 rfl) ho fl_X10_44_8_25 (fun _ _ => rfl) (fun x103 e103 => ?_)
                  refine S_bipush_ 20 (dc_X10_restore 63 rfl) rfl ?_
                  refine S_iload_n (dc_X10_restore 64 rfl) rfl ?_
                  refine S_imul (dc_X10_restore 65 rfl) ?_
                  refine S_iload_n (dc_X10_restore 66 rfl) rfl ?_
                  refine S_iadd (dc_X10_restore 67 rfl) ?_
                  refine S_lald (dc_X10_restore 68 rfl) (fun x112 e112 => ?_)
                  refine S_last (dc_X10_restore 69 rfl) (fun h113 e113 => ?_)
                  refine S_iincN 1 (L' := fun x114 => [some (.ref a0), some (.int a1), some (.int x114)]) (dc_X10_restore 70 rfl) rfl rfl (fun _ => rfl) (fun x114 n114 => ?_)
                  refine S_goto 91 (dc_X10_restore 71 rfl) rfl ?_
                  exact ih3 x114 h113
            exact ih3 F 0 h89_2
        · have hK2 : ∀ (h89_2 : e_H), Sx K cX10_restore 89 [some (.ref a0), some (.int a1), none] [] h89_2 (some h89_2) Q2 := hK2
          have ih2 : ∀ (n : Nat) (x2_60 : Int32) (h_60 : e_H), Sx K cX10_restore 60 [some (.ref a0), some (.int a1), some (.int x2_60)] [] h_60 (lp_X10_restore_60 F a0 a1 n x2_60 h_60) Q2 := by
            intro n
            induction n with
            | zero => intro x2_60 h_60; exact Sx.none
            | succ n ih2 =>
              intro x2_60 h_60
              rw [lp_X10_restore_60.eq_2]
              refine S_iload_n (dc_X10_restore 36 rfl) rfl ?_
              refine S_bipush_ 8 (dc_X10_restore 37 rfl) rfl ?_
              refine S_icmp_ge 89 (dc_X10_restore 38 rfl) rfl (fun c63 => ?_) (fun c63 => ?_)
              · refine Sx.cut [true, true, false] ?_
                exact hK2 h_60
              · refine S_aload_n (dc_X10_restore 39 rfl) rfl ?_
                refine S_getA (dc_X10_restore 40 rfl) ho fl_X10_28_8_20 (fun _ _ => rfl) (fun x67 e67 => ?_)
                refine S_iload_n (dc_X10_restore 41 rfl) rfl ?_
                refine S_aload_n (dc_X10_restore 42 rfl) rfl ?_
                refine S_getA (dc_X10_restore 43 rfl) ho fl_X10_41_8_24 (fun _ _ => rfl) (fun x72 e72 => ?_)
                refine S_bipush_ 8 (dc_X10_restore 44 rfl) rfl ?_
                refine S_iload_n (dc_X10_restore 45 rfl) rfl ?_
                refine S_imul (dc_X10_restore 46 rfl) ?_
                refine S_iload_n (dc_X10_restore 47 rfl) rfl ?_
                refine S_iadd (dc_X10_restore 48 rfl) ?_
                refine S_lald (dc_X10_restore 49 rfl) (fun x81 e81 => ?_)
                refine S_last (dc_X10_restore 50 rfl) (fun h82 e82 => ?_)
                refine S_iincN 1 (L' := fun x83 => [some (.ref a0), some (.int a1), some (.int x83)]) (dc_X10_restore 51 rfl) rfl rfl (fun _ => rfl) (fun x83 n83 => ?_)
                refine S_goto 60 (dc_X10_restore 52 rfl) rfl ?_
                exact ih2 x83 h82
          exact ih2 F 0 h58_1
      · have hK1 : ∀ (h58_1 : e_H), Sx K cX10_restore 58 [some (.ref a0), some (.int a1), none] [] h58_1 (some h58_1) Q1 := hK1
        have ih1 : ∀ (n : Nat) (x2_27 : Int32) (h_27 : e_H), Sx K cX10_restore 27 [some (.ref a0), some (.int a1), some (.int x2_27)] [] h_27 (lp_X10_restore_27 F a0 a1 n x2_27 h_27) Q1 := by
          intro n
          induction n with
          | zero => intro x2_27 h_27; exact Sx.none
          | succ n ih1 =>
            intro x2_27 h_27
            rw [lp_X10_restore_27.eq_2]
            refine S_iload_n (dc_X10_restore 17 rfl) rfl ?_
            refine S_sipush_ 512 (dc_X10_restore 18 rfl) rfl ?_
            refine S_icmp_ge 58 (dc_X10_restore 19 rfl) rfl (fun c31 => ?_) (fun c31 => ?_)
            · refine Sx.cut [true, true, false] ?_
              exact hK1 h_27
            · refine S_aload_n (dc_X10_restore 20 rfl) rfl ?_
              refine S_getA (dc_X10_restore 21 rfl) ho fl_X10_13_8_15 (fun _ _ => rfl) (fun x35 e35 => ?_)
              refine S_iload_n (dc_X10_restore 22 rfl) rfl ?_
              refine S_aload_n (dc_X10_restore 23 rfl) rfl ?_
              refine S_getA (dc_X10_restore 24 rfl) ho fl_X10_22_8_18 (fun _ _ => rfl) (fun x40 e40 => ?_)
              refine S_sipush_ 512 (dc_X10_restore 25 rfl) rfl ?_
              refine S_iload_n (dc_X10_restore 26 rfl) rfl ?_
              refine S_imul (dc_X10_restore 27 rfl) ?_
              refine S_iload_n (dc_X10_restore 28 rfl) rfl ?_
              refine S_iadd (dc_X10_restore 29 rfl) ?_
              refine S_iald (dc_X10_restore 30 rfl) (fun x50 e50 => ?_)
              refine S_iast (dc_X10_restore 31 rfl) (fun h51 e51 => ?_)
              refine S_iincN 1 (L' := fun x52 => [some (.ref a0), some (.int a1), some (.int x52)]) (dc_X10_restore 32 rfl) rfl rfl (fun _ => rfl) (fun x52 n52 => ?_)
              refine S_goto 27 (dc_X10_restore 33 rfl) rfl ?_
              exact ih1 x52 h51
        exact ih1 F 0 h2
    · refine S_iconst_ 0 (dc_X10_restore 13 rfl) rfl ?_
      exact S_iret (dc_X10_restore 14 rfl) hT rfl (e_rqI hr)
abbrev cX10_count : ByteArray := prog_18_method_142_code
def yX10_count : MethodName := ⟨"PegBandsModel", "count", "(I)I"⟩
def tb_X10_count : List (Nat × Instr × Nat) := [(0, .aload_n 0, 1), (1, .iconst 0, 1), (2, .putfield 94, 3), (5, .iload_n 1, 1), (6, .tableswitch 102 0 7 #[46, 53, 60, 65, 72, 79, 88, 97], 46), (52, .aload_n 0, 1), (53, .getfield 13, 3), (56, .iconst 0, 1), (57, .iaload, 1), (58, .ireturn, 1), (59, .aload_n 0, 1), (60, .getfield 13, 3), (63, .iconst 1, 1), (64, .iaload, 1), (65, .ireturn, 1), (66, .aload_n 0, 1), (67, .invokevirtual 276, 3), (70, .ireturn, 1), (71, .aload_n 0, 1), (72, .getfield 13, 3), (75, .iconst 3, 1), (76, .iaload, 1), (77, .ireturn, 1), (78, .aload_n 0, 1), (79, .getfield 13, 3), (82, .iconst 2, 1), (83, .iaload, 1), (84, .ireturn, 1), (85, .aload_n 0, 1), (86, .getfield 13, 3), (89, .sipush 242, 3), (92, .iaload, 1), (93, .ireturn, 1), (94, .aload_n 0, 1), (95, .getfield 13, 3), (98, .sipush 261, 3), (101, .iaload, 1), (102, .ireturn, 1), (103, .aload_n 0, 1), (104, .getfield 98, 3), (107, .ireturn, 1), (108, .iconst (-1), 1), (109, .ireturn, 1)]
theorem tk_X10_count : ∀ q ∈ tb_X10_count, decode cX10_count q.1 = .ok q.2 := by decide +kernel
theorem dc_X10_count (k : Nat) {pc n : Nat} {i : Instr} (h : tb_X10_count[k]? = some (pc, i, n)) : decode cX10_count pc = .ok (i, n) := tk_X10_count (pc, i, n) (List.mem_of_getElem? h)
abbrev mX10_count : e_M := (yX10_count, cX10_count, 2, some (.int), [])
theorem ok_X10_count : e_mok mX10_count 1 := ⟨q2162, q119, by decide +kernel, fun sig h => by cases h; rfl⟩
def f_X10_count (h : e_H) (a0 : Nat) (a1 : Int32) : Option (Int32 × e_H) :=
  Option.bind (e_gI h a0 8 0 0) (fun h2 =>
  if a1 = 0 then
    Option.bind (e_fA h2 a0 8 15) (fun x53 =>
    Option.bind (e_aI h2 x53 0 0) (fun x57 =>
    some (x57, h2)))
  else
  if a1 = 1 then
    Option.bind (e_fA h2 a0 8 15) (fun x60 =>
    Option.bind (e_aI h2 x60 0 1) (fun x64 =>
    some (x64, h2)))
  else
  if a1 = 2 then
    Option.bind (e_is h2 a0 8) (fun _ =>
    Option.bind (f_X10_bands h2 a0) (fun x67 =>
    some (x67, h2)))
  else
  if a1 = 3 then
    Option.bind (e_fA h2 a0 8 15) (fun x72 =>
    Option.bind (e_aI h2 x72 0 3) (fun x76 =>
    some (x76, h2)))
  else
  if a1 = 4 then
    Option.bind (e_fA h2 a0 8 15) (fun x79 =>
    Option.bind (e_aI h2 x79 0 2) (fun x83 =>
    some (x83, h2)))
  else
  if a1 = 5 then
    Option.bind (e_fA h2 a0 8 15) (fun x86 =>
    Option.bind (e_aI h2 x86 0 242) (fun x92 =>
    some (x92, h2)))
  else
  if a1 = 6 then
    Option.bind (e_fA h2 a0 8 15) (fun x95 =>
    Option.bind (e_aI h2 x95 0 261) (fun x101 =>
    some (x101, h2)))
  else
  if a1 = 7 then
    Option.bind (e_fI h2 a0 8 2) (fun x104 =>
    some (x104, h2))
  else
    some ((-1), h2))
set_option maxHeartbeats 4000000 in
set_option maxRecDepth 100000 in
theorem ct_X10_count {l : Launch} {D : e_D} {B : Heap} {d : Nat} {h : e_H} {a0 : Nat} {a1 : Int32} {v : Int32} {h1 : e_H} (hd : 2 ≤ d) (e : f_X10_count h a0 a1 = some (v, h1)) : e_Run l D B d mX10_count [.ref a0, .int a1] h (.ok (some (.int v)), h1) := by
  refine e_start [some (.ref a0), some (.int a1)] (by decide) rfl rfl rfl (Nat.le_of_ble_eq_true rfl) (fun K hl0 hD0 hB0 hM hd0 hr => ?_)
  subst hl0 hD0 hB0 hd0
  have ho : (k_M K).1.cls = "PegBandsModel" := by rw [hM]; rfl
  have hT : (k_M K).2.2.2.1 = some (.int) := by rw [hM]
  refine (show Sx K cX10_count 0 [some (.ref a0), some (.int a1)] [] h (f_X10_count h a0 a1) (fun w => w = (v, h1)) from ?_) _ e rfl
  clear e
  unfold f_X10_count
  refine S_aload_n (dc_X10_count 0 rfl) rfl ?_
  refine S_iconst_ 0 (dc_X10_count 1 rfl) rfl ?_
  refine S_putI (dc_X10_count 2 rfl) ho fl_X10_94_8_0 (fun _ _ => rfl) (Or.inl rfl) rfl rfl (fun h2 e2 => ?_)
  refine S_iload_n (dc_X10_count 3 rfl) rfl ?_
  refine Sx.case (fun c6_0 => ?_) (fun c6_0 => ?_)
  · refine S_tsIn 52 c6_0 (dc_X10_count 4 rfl) (by decide) (by decide) rfl rfl ?_
    refine S_aload_n (dc_X10_count 5 rfl) rfl ?_
    refine S_getA (dc_X10_count 6 rfl) ho fl_X10_13_8_15 (fun _ _ => rfl) (fun x53 e53 => ?_)
    refine S_iconst_ 0 (dc_X10_count 7 rfl) rfl ?_
    refine S_iald (dc_X10_count 8 rfl) (fun x57 e57 => ?_)
    exact S_iret (dc_X10_count 9 rfl) hT rfl (e_rqI hr)
  refine Sx.case (fun c6_1 => ?_) (fun c6_1 => ?_)
  · refine S_tsIn 59 c6_1 (dc_X10_count 4 rfl) (by decide) (by decide) rfl rfl ?_
    refine S_aload_n (dc_X10_count 10 rfl) rfl ?_
    refine S_getA (dc_X10_count 11 rfl) ho fl_X10_13_8_15 (fun _ _ => rfl) (fun x60 e60 => ?_)
    refine S_iconst_ 1 (dc_X10_count 12 rfl) rfl ?_
    refine S_iald (dc_X10_count 13 rfl) (fun x64 e64 => ?_)
    exact S_iret (dc_X10_count 14 rfl) hT rfl (e_rqI hr)
  refine Sx.case (fun c6_2 => ?_) (fun c6_2 => ?_)
  · refine S_tsIn 66 c6_2 (dc_X10_count 4 rfl) (by decide) (by decide) rfl rfl ?_
    refine S_aload_n (dc_X10_count 15 rfl) rfl ?_
    refine Sx.ask (fun _ i67 => ?_)
    refine S_roI (d := k_d K - 1) (e_callV (b := a0) (As := []) (rest := []) ok_X10_bands rfl (Nat.le_of_ble_eq_true rfl) (dc_X10_count 16 rfl) ho q1795 q1797 (show e_cl[8]? = some (RX10, TX10, 51) from rfl) (e_sel.of qs53) (e_is_of i67) rfl (Nat.le_of_ble_eq_true rfl)) (by omega) (fun _ e => ct_X10_bands (by omega) e) (fun x67 e67 => ?_)
    exact S_iret (dc_X10_count 17 rfl) hT rfl (e_rqI hr)
  refine Sx.case (fun c6_3 => ?_) (fun c6_3 => ?_)
  · refine S_tsIn 71 c6_3 (dc_X10_count 4 rfl) (by decide) (by decide) rfl rfl ?_
    refine S_aload_n (dc_X10_count 18 rfl) rfl ?_
    refine S_getA (dc_X10_count 19 rfl) ho fl_X10_13_8_15 (fun _ _ => rfl) (fun x72 e72 => ?_)
    refine S_iconst_ 3 (dc_X10_count 20 rfl) rfl ?_
    refine S_iald (dc_X10_count 21 rfl) (fun x76 e76 => ?_)
    exact S_iret (dc_X10_count 22 rfl) hT rfl (e_rqI hr)
  refine Sx.case (fun c6_4 => ?_) (fun c6_4 => ?_)
  · refine S_tsIn 78 c6_4 (dc_X10_count 4 rfl) (by decide) (by decide) rfl rfl ?_
    refine S_aload_n (dc_X10_count 23 rfl) rfl ?_
    refine S_getA (dc_X10_count 24 rfl) ho fl_X10_13_8_15 (fun _ _ => rfl) (fun x79 e79 => ?_)
    refine S_iconst_ 2 (dc_X10_count 25 rfl) rfl ?_
    refine S_iald (dc_X10_count 26 rfl) (fun x83 e83 => ?_)
    exact S_iret (dc_X10_count 27 rfl) hT rfl (e_rqI hr)
  refine Sx.case (fun c6_5 => ?_) (fun c6_5 => ?_)
  · refine S_tsIn 85 c6_5 (dc_X10_count 4 rfl) (by decide) (by decide) rfl rfl ?_
    refine S_aload_n (dc_X10_count 28 rfl) rfl ?_
    refine S_getA (dc_X10_count 29 rfl) ho fl_X10_13_8_15 (fun _ _ => rfl) (fun x86 e86 => ?_)
    refine S_sipush_ 242 (dc_X10_count 30 rfl) rfl ?_
    refine S_iald (dc_X10_count 31 rfl) (fun x92 e92 => ?_)
    exact S_iret (dc_X10_count 32 rfl) hT rfl (e_rqI hr)
  refine Sx.case (fun c6_6 => ?_) (fun c6_6 => ?_)
  · refine S_tsIn 94 c6_6 (dc_X10_count 4 rfl) (by decide) (by decide) rfl rfl ?_
    refine S_aload_n (dc_X10_count 33 rfl) rfl ?_
    refine S_getA (dc_X10_count 34 rfl) ho fl_X10_13_8_15 (fun _ _ => rfl) (fun x95 e95 => ?_)
    refine S_sipush_ 261 (dc_X10_count 35 rfl) rfl ?_
    refine S_iald (dc_X10_count 36 rfl) (fun x101 e101 => ?_)
    exact S_iret (dc_X10_count 37 rfl) hT rfl (e_rqI hr)
  refine Sx.case (fun c6_7 => ?_) (fun c6_7 => ?_)
  · refine S_tsIn 103 c6_7 (dc_X10_count 4 rfl) (by decide) (by decide) rfl rfl ?_
    refine S_aload_n (dc_X10_count 38 rfl) rfl ?_
    refine S_getI (dc_X10_count 39 rfl) ho fl_X10_98_8_2 (fun _ _ => rfl) (fun x104 e104 => ?_)
    exact S_iret (dc_X10_count 40 rfl) hT rfl (e_rqI hr)
  refine S_tsOut 108 (dc_X10_count 4 rfl) (by have := e_neI (k := 0) c6_0 (by decide); have := e_neI (k := 1) c6_1 (by decide); have := e_neI (k := 2) c6_2 (by decide); have := e_neI (k := 3) c6_3 (by decide); have := e_neI (k := 4) c6_4 (by decide); have := e_neI (k := 5) c6_5 (by decide); have := e_neI (k := 6) c6_6 (by decide); have := e_neI (k := 7) c6_7 (by decide); omega) rfl ?_
  refine S_iconst_ (-1) (dc_X10_count 41 rfl) rfl ?_
  exact S_iret (dc_X10_count 42 rfl) hT rfl (e_rqI hr)
abbrev cX16_init : ByteArray := prog_2_method_1_code
def yX16_init : MethodName := ⟨"PegBands$Any", "<init>", "(LPegBands$Cond;LPegBands$Cond;)V"⟩
def tb_X16_init : List (Nat × Instr × Nat) := [(0, .aload_n 0, 1), (1, .invokespecial 1, 3), (4, .aload_n 0, 1), (5, .aload_n 1, 1), (6, .putfield 7, 3), (9, .aload_n 0, 1), (10, .aload_n 2, 1), (11, .putfield 13, 3), (14, .return_, 1)]
theorem tk_X16_init : ∀ q ∈ tb_X16_init, decode cX16_init q.1 = .ok q.2 := by decide +kernel
theorem dc_X16_init (k : Nat) {pc n : Nat} {i : Instr} (h : tb_X16_init[k]? = some (pc, i, n)) : decode cX16_init pc = .ok (i, n) := tk_X16_init (pc, i, n) (List.mem_of_getElem? h)
abbrev mX16_init : e_M := (yX16_init, cX16_init, 3, none, [])
theorem ok_X16_init : e_mok mX16_init 2 := ⟨q1330, q133, by decide +kernel, fun sig h => by cases h; rfl⟩
theorem fl_X16_7_13_0 : e_FL "PegBands$Any" 7 13 0 := ⟨_, rfl, by decide, Or.inl q1332⟩
theorem fl_X16_13_13_1 : e_FL "PegBands$Any" 13 13 1 := ⟨_, rfl, by decide, Or.inl q1333⟩
def f_X16_init (h : e_H) (a0 : Nat) (a1 : Nat) (a2 : Nat) : Option e_H :=
  Option.bind (f_X11_init h a0) (fun h1 =>
  Option.bind (e_gR h1 a0 13 0 (some a1)) (fun h6 =>
  Option.bind (e_gR h6 a0 13 1 (some a2)) (fun h11 =>
  some h11)))
set_option maxHeartbeats 4000000 in
set_option maxRecDepth 100000 in
theorem ct_X16_init {l : Launch} {D : e_D} {B : Heap} {d : Nat} {h : e_H} {a0 : Nat} {a1 : Nat} {a2 : Nat} {h1 : e_H} (hd : 2 ≤ d) (e : f_X16_init h a0 a1 a2 = some h1) : e_Run l D B d mX16_init [.ref a0, .ref a1, .ref a2] h (.ok none, h1) := by
  refine e_start [some (.ref a0), some (.ref a1), some (.ref a2)] (by decide) rfl rfl rfl (Nat.le_of_ble_eq_true rfl) (fun K hl0 hD0 hB0 hM hd0 hr => ?_)
  subst hl0 hD0 hB0 hd0
  have ho : (k_M K).1.cls = "PegBands$Any" := by rw [hM]; rfl
  have hT : (k_M K).2.2.2.1 = none := by rw [hM]
  refine (show Sx K cX16_init 0 [some (.ref a0), some (.ref a1), some (.ref a2)] [] h (f_X16_init h a0 a1 a2) (fun w => w = h1) from ?_) _ e rfl
  clear e
  unfold f_X16_init
  refine S_aload_n (dc_X16_init 0 rfl) rfl ?_
  refine S_rwV (d := k_d K - 1) (e_callIN (b := a0) (As := []) (rest := []) ok_X11_init rfl rfl rfl (Nat.le_of_ble_eq_true rfl) (dc_X16_init 1 rfl) ho q1331 q1266 rfl (Nat.le_of_ble_eq_true rfl)) (by omega) (fun _ e => ct_X11_init (by omega) e) (fun h1 e1 => ?_)
  refine S_aload_n (dc_X16_init 2 rfl) rfl ?_
  refine S_aload_n (dc_X16_init 3 rfl) rfl ?_
  refine S_putR (v := (some a1)) (dc_X16_init 4 rfl) ho fl_X16_7_13_0 (fun _ _ => rfl) (Or.inr ⟨rfl, by rw [hM]; rfl, rfl⟩) rfl (fun h6 e6 => ?_)
  refine S_aload_n (dc_X16_init 5 rfl) rfl ?_
  refine S_aload_n (dc_X16_init 6 rfl) rfl ?_
  refine S_putR (v := (some a2)) (dc_X16_init 7 rfl) ho fl_X16_13_13_1 (fun _ _ => rfl) (Or.inr ⟨rfl, by rw [hM]; rfl, rfl⟩) rfl (fun h11 e11 => ?_)
  exact S_vret (dc_X16_init 8 rfl) hT (fun q => by cases q; exact hr)
abbrev cX16_is : ByteArray := prog_2_method_2_code
def yX16_is : MethodName := ⟨"PegBands$Any", "is", "(LPegBands;I)Z"⟩
def tb_X16_is : List (Nat × Instr × Nat) := [(0, .aload_n 0, 1), (1, .getfield 7, 3), (4, .aload_n 1, 1), (5, .iload_n 2, 1), (6, .invokevirtual 16, 3), (9, .ifCond .ne 15, 3), (12, .aload_n 0, 1), (13, .getfield 13, 3), (16, .aload_n 1, 1), (17, .iload_n 2, 1), (18, .invokevirtual 16, 3), (21, .ifCond .eq 7, 3), (24, .iconst 1, 1), (25, .goto 4, 3), (28, .iconst 0, 1), (29, .ireturn, 1)]
theorem tk_X16_is : ∀ q ∈ tb_X16_is, decode cX16_is q.1 = .ok q.2 := by decide +kernel
theorem dc_X16_is (k : Nat) {pc n : Nat} {i : Instr} (h : tb_X16_is[k]? = some (pc, i, n)) : decode cX16_is pc = .ok (i, n) := tk_X16_is (pc, i, n) (List.mem_of_getElem? h)
abbrev mX16_is : e_M := (yX16_is, cX16_is, 3, some (.boolean), [])
theorem ok_X16_is : e_mok mX16_is 2 := ⟨q1348, q133, by decide +kernel, fun sig h => by cases h; rfl⟩
def f_X16_is (F : Nat) (S : e_H → Nat → Nat → Int32 → Option (Int32 × e_H)) (h : e_H) (a0 : Nat) (a1 : Nat) (a2 : Int32) : Option (Int32 × e_H) :=
  Option.bind (e_fA h a0 13 0) (fun x1 =>
  e_b2 (S h x1 a1 a2) (fun x6 h6 =>
  if x6 = 0 then
    Option.bind (e_fA h6 a0 13 1) (fun x13 =>
    e_b2 (S h6 x13 a1 a2) (fun x18 h18 =>
    if x18 = 0 then
      some (0, h18)
    else
      some (1, h18)))
  else
    some (1, h6)))
set_option maxHeartbeats 4000000 in
set_option maxRecDepth 100000 in
theorem ct_X16_is {l : Launch} {D : e_D} {B : Heap} {F : Nat} {S : e_H → Nat → Nat → Int32 → Option (Int32 × e_H)} {dS : Nat} {d : Nat} {h : e_H} {a0 : Nat} {a1 : Nat} {a2 : Int32} {v : Int32} {h1 : e_H} (hS : ∀ {h : e_H} {a0 a1 : Nat} {a2 : Int32} {v : Int32} {h1 : e_H}, S h a0 a1 a2 = some (v, h1) → e_Disp l D B dS h a0 a1 a2 v h1) (hd : 1 ≤ d) (hd2 : dS + 1 ≤ d) (e : f_X16_is F S h a0 a1 a2 = some (v, h1)) : e_Run l D B d mX16_is [.ref a0, .ref a1, .int a2] h (.ok (some (.int v)), h1) := by
  refine e_start [some (.ref a0), some (.ref a1), some (.int a2)] (by decide) rfl rfl rfl (Nat.le_of_ble_eq_true rfl) (fun K hl0 hD0 hB0 hM hd0 hr => ?_)
  subst hl0 hD0 hB0 hd0
  have ho : (k_M K).1.cls = "PegBands$Any" := by rw [hM]; rfl
  have hT : (k_M K).2.2.2.1 = some (.boolean) := by rw [hM]
  refine (show Sx K cX16_is 0 [some (.ref a0), some (.ref a1), some (.int a2)] [] h (f_X16_is F S h a0 a1 a2) (fun w => w = (v, h1)) from ?_) _ e rfl
  clear e
  unfold f_X16_is
  refine S_aload_n (dc_X16_is 0 rfl) rfl ?_
  refine S_getA (dc_X16_is 1 rfl) ho fl_X16_7_13_0 (fun _ _ => rfl) (fun x1 e1 => ?_)
  refine S_aload_n (dc_X16_is 2 rfl) rfl ?_
  refine S_iload_n (dc_X16_is 3 rfl) rfl ?_
  refine S_disp (rest := []) (d := dS) (dc_X16_is 4 rfl) ho q1349 (by omega) (Nat.le_of_ble_eq_true rfl) (fun e => hS e) (fun x6 h6 e6 => ?_)
  refine S_if_ne 24 (dc_X16_is 5 rfl) rfl (fun c9 => ?_) (fun c9 => ?_)
  · refine S_iconst_ 1 (dc_X16_is 12 rfl) rfl ?_
    refine S_goto 29 (dc_X16_is 13 rfl) rfl ?_
    exact S_iret (dc_X16_is 15 rfl) hT rfl (e_rqI hr)
  · refine S_aload_n (dc_X16_is 6 rfl) rfl ?_
    refine S_getA (dc_X16_is 7 rfl) ho fl_X16_13_13_1 (fun _ _ => rfl) (fun x13 e13 => ?_)
    refine S_aload_n (dc_X16_is 8 rfl) rfl ?_
    refine S_iload_n (dc_X16_is 9 rfl) rfl ?_
    refine S_disp (rest := []) (d := dS) (dc_X16_is 10 rfl) ho q1349 (by omega) (Nat.le_of_ble_eq_true rfl) (fun e => hS e) (fun x18 h18 e18 => ?_)
    refine S_if_eq 28 (dc_X16_is 11 rfl) rfl (fun c21 => ?_) (fun c21 => ?_)
    · refine S_iconst_ 0 (dc_X16_is 14 rfl) rfl ?_
      exact S_iret (dc_X16_is 15 rfl) hT rfl (e_rqI hr)
    · refine S_iconst_ 1 (dc_X16_is 12 rfl) rfl ?_
      refine S_goto 29 (dc_X16_is 13 rfl) rfl ?_
      exact S_iret (dc_X16_is 15 rfl) hT rfl (e_rqI hr)
abbrev cX3_init : ByteArray := prog_4_method_1_code
def yX3_init : MethodName := ⟨"PegBands$Board", "<init>", "()V"⟩
def tb_X3_init : List (Nat × Instr × Nat) := [(0, .aload_n 0, 1), (1, .invokespecial 3, 3), (4, .aload_n 0, 1), (5, .bipush 8, 2), (7, .anewarray 9, 3), (10, .putfield 11, 3), (13, .aload_n 0, 1), (14, .bipush 100, 2), (16, .newarray .boolean, 2), (18, .putfield 17, 3), (21, .return_, 1)]
theorem tk_X3_init : ∀ q ∈ tb_X3_init, decode cX3_init q.1 = .ok q.2 := by decide +kernel
theorem dc_X3_init (k : Nat) {pc n : Nat} {i : Instr} (h : tb_X3_init[k]? = some (pc, i, n)) : decode cX3_init pc = .ok (i, n) := tk_X3_init (pc, i, n) (List.mem_of_getElem? h)
abbrev mX3_init : e_M := (yX3_init, cX3_init, 1, none, [])
theorem ok_X3_init : e_mok mX3_init 0 := ⟨q235, q112, by decide +kernel, fun sig h => by cases h; rfl⟩
theorem fl_X3_11_2_0 : e_FL "PegBands$Board" 11 2 0 := ⟨_, rfl, by decide, Or.inl q239⟩
theorem fl_X3_17_2_1 : e_FL "PegBands$Board" 17 2 1 := ⟨_, rfl, by decide, Or.inl q245⟩
def f_X3_init (h : e_H) (a0 : Nat) : Option e_H :=
  Option.bind (e_nat 8) (fun l7 => e_mkb h (.inr (4, l7)) l7 (fun x7 h7 =>
  Option.bind (e_gR h7 a0 2 0 (some x7)) (fun h10 =>
  Option.bind (e_nat 100) (fun l16 => e_mkb h10 (.inr (2, l16)) l16 (fun x16 h16 =>
  Option.bind (e_gR h16 a0 2 1 (some x16)) (fun h18 =>
  some h18))))))
set_option maxHeartbeats 4000000 in
set_option maxRecDepth 100000 in
theorem ct_X3_init {l : Launch} {D : e_D} {B : Heap} {d : Nat} {h : e_H} {a0 : Nat} {h1 : e_H} (hd : 1 ≤ d) (e : f_X3_init h a0 = some h1) : e_Run l D B d mX3_init [.ref a0] h (.ok none, h1) := by
  refine e_start [some (.ref a0)] (by decide) rfl rfl rfl (Nat.le_of_ble_eq_true rfl) (fun K hl0 hD0 hB0 hM hd0 hr => ?_)
  subst hl0 hD0 hB0 hd0
  have ho : (k_M K).1.cls = "PegBands$Board" := by rw [hM]; rfl
  have hT : (k_M K).2.2.2.1 = none := by rw [hM]
  refine (show Sx K cX3_init 0 [some (.ref a0)] [] h (f_X3_init h a0) (fun w => w = h1) from ?_) _ e rfl
  clear e
  unfold f_X3_init
  refine S_aload_n (dc_X3_init 0 rfl) rfl ?_
  refine S_objInit (dc_X3_init 1 rfl) ho q236 (by omega) (Nat.le_of_ble_eq_true rfl) ?_
  refine S_aload_n (dc_X3_init 2 rfl) rfl ?_
  refine S_bipush_ 8 (dc_X3_init 3 rfl) rfl ?_
  refine S_anewOB (t := 4) (dc_X3_init 4 rfl) ho (by decide) rfl q237 q238 (fun l7 x7 h7 v7 u7 w7 => ?_)
  refine S_putR (v := (some x7)) (dc_X3_init 5 rfl) ho fl_X3_11_2_0 (fun _ _ => rfl) (Or.inr ⟨rfl, by rw [hM]; rfl, rfl⟩) rfl (fun h10 e10 => ?_)
  refine S_aload_n (dc_X3_init 6 rfl) rfl ?_
  refine S_bipush_ 100 (dc_X3_init 7 rfl) rfl ?_
  refine S_newaB (t := 2) (dc_X3_init 8 rfl) (by decide) rfl q282 (fun l16 x16 h16 v16 u16 w16 => ?_)
  refine S_putR (v := (some x16)) (dc_X3_init 9 rfl) ho fl_X3_17_2_1 (fun _ _ => rfl) (Or.inr ⟨rfl, by rw [hM]; rfl, rfl⟩) rfl (fun h18 e18 => ?_)
  exact S_vret (dc_X3_init 10 rfl) hT (fun q => by cases q; exact hr)
abbrev cX3_isPlace : ByteArray := prog_4_method_2_code
def yX3_isPlace : MethodName := ⟨"PegBands$Board", "isPlace", "(II)Z"⟩
def tb_X3_isPlace : List (Nat × Instr × Nat) := [(0, .iload_n 1, 1), (1, .iconst 0, 1), (2, .aload_n 0, 1), (3, .getfield 21, 3), (6, .iconst 1, 1), (7, .isub, 1), (8, .invokestatic 25, 3), (11, .ifCond .eq 21, 3), (14, .iload_n 2, 1), (15, .iconst 0, 1), (16, .aload_n 0, 1), (17, .getfield 29, 3), (20, .iconst 1, 1), (21, .isub, 1), (22, .invokestatic 25, 3), (25, .ifCond .eq 7, 3), (28, .iconst 1, 1), (29, .goto 4, 3), (32, .iconst 0, 1), (33, .ireturn, 1)]
theorem tk_X3_isPlace : ∀ q ∈ tb_X3_isPlace, decode cX3_isPlace q.1 = .ok q.2 := by decide +kernel
theorem dc_X3_isPlace (k : Nat) {pc n : Nat} {i : Instr} (h : tb_X3_isPlace[k]? = some (pc, i, n)) : decode cX3_isPlace pc = .ok (i, n) := tk_X3_isPlace (pc, i, n) (List.mem_of_getElem? h)
abbrev mX3_isPlace : e_M := (yX3_isPlace, cX3_isPlace, 3, some (.boolean), [])
theorem ok_X3_isPlace : e_mok mX3_isPlace 2 := ⟨q784, q112, by decide +kernel, fun sig h => by cases h; rfl⟩
theorem fl_X3_21_2_2 : e_FL "PegBands$Board" 21 2 2 := ⟨_, rfl, by decide, Or.inl q248⟩
theorem fl_X3_29_2_3 : e_FL "PegBands$Board" 29 2 3 := ⟨_, rfl, by decide, Or.inl q252⟩
def f_X3_isPlace (h : e_H) (a0 : Nat) (a1 : Int32) (a2 : Int32) : Option Int32 :=
  Option.bind (e_fI h a0 2 2) (fun x3 =>
  Option.bind (f_X1_isIn a1 0 (x3 - 1)) (fun x8 =>
  if x8 = 0 then
    some 0
  else
    Option.bind (e_fI h a0 2 3) (fun x17 =>
    Option.bind (f_X1_isIn a2 0 (x17 - 1)) (fun x22 =>
    if x22 = 0 then
      some 0
    else
      some 1))))
set_option maxHeartbeats 4000000 in
set_option maxRecDepth 100000 in
theorem ct_X3_isPlace {l : Launch} {D : e_D} {B : Heap} {d : Nat} {h : e_H} {a0 : Nat} {a1 : Int32} {a2 : Int32} {v : Int32} (hd : 2 ≤ d) (e : f_X3_isPlace h a0 a1 a2 = some v) : e_Run l D B d mX3_isPlace [.ref a0, .int a1, .int a2] h (.ok (some (.int v)), h) := by
  refine e_start [some (.ref a0), some (.int a1), some (.int a2)] (by decide) rfl rfl rfl (Nat.le_of_ble_eq_true rfl) (fun K hl0 hD0 hB0 hM hd0 hr => ?_)
  subst hl0 hD0 hB0 hd0
  have ho : (k_M K).1.cls = "PegBands$Board" := by rw [hM]; rfl
  have hT : (k_M K).2.2.2.1 = some (.boolean) := by rw [hM]
  refine (show Sx K cX3_isPlace 0 [some (.ref a0), some (.int a1), some (.int a2)] [] h (f_X3_isPlace h a0 a1 a2) (fun w => w = v) from ?_) _ e rfl
  clear e
  unfold f_X3_isPlace
  refine S_iload_n (dc_X3_isPlace 0 rfl) rfl ?_
  refine S_iconst_ 0 (dc_X3_isPlace 1 rfl) rfl ?_
  refine S_aload_n (dc_X3_isPlace 2 rfl) rfl ?_
  refine S_getI (dc_X3_isPlace 3 rfl) ho fl_X3_21_2_2 (fun _ _ => rfl) (fun x3 e3 => ?_)
  refine S_iconst_ 1 (dc_X3_isPlace 4 rfl) rfl ?_
  refine S_isub (dc_X3_isPlace 5 rfl) ?_
  refine S_roI (d := k_d K - 1) (e_callSN (As := [.int a1, .int 0, .int (x3 - 1)]) (rest := []) ok_X1_isIn rfl (Nat.le_of_ble_eq_true rfl) (dc_X3_isPlace 6 rfl) ho q785 q616 rfl (Nat.le_of_ble_eq_true rfl)) (by omega) (fun _ e => ct_X1_isIn (by omega) e) (fun x8 e8 => ?_)
  refine S_if_eq 32 (dc_X3_isPlace 7 rfl) rfl (fun c11 => ?_) (fun c11 => ?_)
  · refine S_iconst_ 0 (dc_X3_isPlace 18 rfl) rfl ?_
    exact S_iret (dc_X3_isPlace 19 rfl) hT rfl (fun q => by cases q; exact hr)
  · refine S_iload_n (dc_X3_isPlace 8 rfl) rfl ?_
    refine S_iconst_ 0 (dc_X3_isPlace 9 rfl) rfl ?_
    refine S_aload_n (dc_X3_isPlace 10 rfl) rfl ?_
    refine S_getI (dc_X3_isPlace 11 rfl) ho fl_X3_29_2_3 (fun _ _ => rfl) (fun x17 e17 => ?_)
    refine S_iconst_ 1 (dc_X3_isPlace 12 rfl) rfl ?_
    refine S_isub (dc_X3_isPlace 13 rfl) ?_
    refine S_roI (d := k_d K - 1) (e_callSN (As := [.int a2, .int 0, .int (x17 - 1)]) (rest := []) ok_X1_isIn rfl (Nat.le_of_ble_eq_true rfl) (dc_X3_isPlace 14 rfl) ho q785 q616 rfl (Nat.le_of_ble_eq_true rfl)) (by omega) (fun _ e => ct_X1_isIn (by omega) e) (fun x22 e22 => ?_)
    refine S_if_eq 32 (dc_X3_isPlace 15 rfl) rfl (fun c25 => ?_) (fun c25 => ?_)
    · refine S_iconst_ 0 (dc_X3_isPlace 18 rfl) rfl ?_
      exact S_iret (dc_X3_isPlace 19 rfl) hT rfl (fun q => by cases q; exact hr)
    · refine S_iconst_ 1 (dc_X3_isPlace 16 rfl) rfl ?_
      refine S_goto 33 (dc_X3_isPlace 17 rfl) rfl ?_
      exact S_iret (dc_X3_isPlace 19 rfl) hT rfl (fun q => by cases q; exact hr)
abbrev cX3_isPeg : ByteArray := prog_4_method_3_code
def yX3_isPeg : MethodName := ⟨"PegBands$Board", "isPeg", "(II)Z"⟩
def tb_X3_isPeg : List (Nat × Instr × Nat) := [(0, .aload_n 0, 1), (1, .iload_n 1, 1), (2, .iload_n 2, 1), (3, .invokevirtual 32, 3), (6, .ifCond .eq 21, 3), (9, .aload_n 0, 1), (10, .getfield 17, 3), (13, .bipush 10, 2), (15, .iload_n 2, 1), (16, .imul, 1), (17, .iload_n 1, 1), (18, .iadd, 1), (19, .baload, 1), (20, .ifCond .ne 7, 3), (23, .iconst 1, 1), (24, .goto 4, 3), (27, .iconst 0, 1), (28, .ireturn, 1)]
theorem tk_X3_isPeg : ∀ q ∈ tb_X3_isPeg, decode cX3_isPeg q.1 = .ok q.2 := by decide +kernel
theorem dc_X3_isPeg (k : Nat) {pc n : Nat} {i : Instr} (h : tb_X3_isPeg[k]? = some (pc, i, n)) : decode cX3_isPeg pc = .ok (i, n) := tk_X3_isPeg (pc, i, n) (List.mem_of_getElem? h)
abbrev mX3_isPeg : e_M := (yX3_isPeg, cX3_isPeg, 3, some (.boolean), [])
theorem ok_X3_isPeg : e_mok mX3_isPeg 2 := ⟨q780, q112, by decide +kernel, fun sig h => by cases h; rfl⟩
def f_X3_isPeg (h : e_H) (a0 : Nat) (a1 : Int32) (a2 : Int32) : Option Int32 :=
  Option.bind (e_is h a0 2) (fun _ =>
  Option.bind (f_X3_isPlace h a0 a1 a2) (fun x3 =>
  if x3 = 0 then
    some 0
  else
    Option.bind (e_fA h a0 2 1) (fun x10 =>
    Option.bind (e_aI h x10 2 ((10 * a2) + a1)) (fun x19 =>
    if x19 = 0 then
      some 1
    else
      some 0))))
set_option maxHeartbeats 4000000 in
set_option maxRecDepth 100000 in
theorem ct_X3_isPeg {l : Launch} {D : e_D} {B : Heap} {d : Nat} {h : e_H} {a0 : Nat} {a1 : Int32} {a2 : Int32} {v : Int32} (hd : 3 ≤ d) (e : f_X3_isPeg h a0 a1 a2 = some v) : e_Run l D B d mX3_isPeg [.ref a0, .int a1, .int a2] h (.ok (some (.int v)), h) := by
  refine e_start [some (.ref a0), some (.int a1), some (.int a2)] (by decide) rfl rfl rfl (Nat.le_of_ble_eq_true rfl) (fun K hl0 hD0 hB0 hM hd0 hr => ?_)
  subst hl0 hD0 hB0 hd0
  have ho : (k_M K).1.cls = "PegBands$Board" := by rw [hM]; rfl
  have hT : (k_M K).2.2.2.1 = some (.boolean) := by rw [hM]
  refine (show Sx K cX3_isPeg 0 [some (.ref a0), some (.int a1), some (.int a2)] [] h (f_X3_isPeg h a0 a1 a2) (fun w => w = v) from ?_) _ e rfl
  clear e
  unfold f_X3_isPeg
  refine S_aload_n (dc_X3_isPeg 0 rfl) rfl ?_
  refine S_iload_n (dc_X3_isPeg 1 rfl) rfl ?_
  refine S_iload_n (dc_X3_isPeg 2 rfl) rfl ?_
  refine Sx.ask (fun _ i3 => ?_)
  refine S_roI (d := k_d K - 1) (e_callV (b := a0) (As := [.int a1, .int a2]) (rest := []) ok_X3_isPlace rfl (Nat.le_of_ble_eq_true rfl) (dc_X3_isPeg 3 rfl) ho q781 q782 (show e_cl[2]? = some (RX3, TX3, 7) from rfl) (e_sel.of q783) (e_is_of i3) rfl (Nat.le_of_ble_eq_true rfl)) (by omega) (fun _ e => ct_X3_isPlace (by omega) e) (fun x3 e3 => ?_)
  refine S_if_eq 27 (dc_X3_isPeg 4 rfl) rfl (fun c6 => ?_) (fun c6 => ?_)
  · refine S_iconst_ 0 (dc_X3_isPeg 16 rfl) rfl ?_
    exact S_iret (dc_X3_isPeg 17 rfl) hT rfl (fun q => by cases q; exact hr)
  · refine S_aload_n (dc_X3_isPeg 5 rfl) rfl ?_
    refine S_getA (dc_X3_isPeg 6 rfl) ho fl_X3_17_2_1 (fun _ _ => rfl) (fun x10 e10 => ?_)
    refine S_bipush_ 10 (dc_X3_isPeg 7 rfl) rfl ?_
    refine S_iload_n (dc_X3_isPeg 8 rfl) rfl ?_
    refine S_imul (dc_X3_isPeg 9 rfl) ?_
    refine S_iload_n (dc_X3_isPeg 10 rfl) rfl ?_
    refine S_iadd (dc_X3_isPeg 11 rfl) ?_
    refine S_zald (dc_X3_isPeg 12 rfl) (fun x19 e19 => ?_)
    refine S_if_ne 27 (dc_X3_isPeg 13 rfl) rfl (fun c20 => ?_) (fun c20 => ?_)
    · refine S_iconst_ 0 (dc_X3_isPeg 16 rfl) rfl ?_
      exact S_iret (dc_X3_isPeg 17 rfl) hT rfl (fun q => by cases q; exact hr)
    · refine S_iconst_ 1 (dc_X3_isPeg 14 rfl) rfl ?_
      refine S_goto 28 (dc_X3_isPeg 15 rfl) rfl ?_
      exact S_iret (dc_X3_isPeg 17 rfl) hT rfl (fun q => by cases q; exact hr)
abbrev cX8_last : ByteArray := prog_3_method_6_code
def yX8_last : MethodName := ⟨"PegBands$Band", "last", "(I)I"⟩
def tb_X8_last : List (Nat × Instr × Nat) := [(0, .iload_n 1, 1), (1, .ifCond .ne 12, 3), (4, .aload_n 0, 1), (5, .getfield 28, 3), (8, .iconst 1, 1), (9, .isub, 1), (10, .goto 6, 3), (13, .iload_n 1, 1), (14, .iconst 1, 1), (15, .isub, 1), (16, .ireturn, 1)]
theorem tk_X8_last : ∀ q ∈ tb_X8_last, decode cX8_last q.1 = .ok q.2 := by decide +kernel
theorem dc_X8_last (k : Nat) {pc n : Nat} {i : Instr} (h : tb_X8_last[k]? = some (pc, i, n)) : decode cX8_last pc = .ok (i, n) := tk_X8_last (pc, i, n) (List.mem_of_getElem? h)
abbrev mX8_last : e_M := (yX8_last, cX8_last, 2, some (.int), [])
theorem ok_X8_last : e_mok mX8_last 1 := ⟨q797, q117, by decide +kernel, fun sig h => by cases h; rfl⟩
def f_X8_last (h : e_H) (a0 : Nat) (a1 : Int32) : Option Int32 :=
  if a1 = 0 then
    Option.bind (e_fI h a0 6 2) (fun x5 =>
    some (x5 - 1))
  else
    some (a1 - 1)
set_option maxHeartbeats 4000000 in
set_option maxRecDepth 100000 in
theorem ct_X8_last {l : Launch} {D : e_D} {B : Heap} {d : Nat} {h : e_H} {a0 : Nat} {a1 : Int32} {v : Int32} (hd : 1 ≤ d) (e : f_X8_last h a0 a1 = some v) : e_Run l D B d mX8_last [.ref a0, .int a1] h (.ok (some (.int v)), h) := by
  refine e_start [some (.ref a0), some (.int a1)] (by decide) rfl rfl rfl (Nat.le_of_ble_eq_true rfl) (fun K hl0 hD0 hB0 hM hd0 hr => ?_)
  subst hl0 hD0 hB0 hd0
  have ho : (k_M K).1.cls = "PegBands$Band" := by rw [hM]; rfl
  have hT : (k_M K).2.2.2.1 = some (.int) := by rw [hM]
  refine (show Sx K cX8_last 0 [some (.ref a0), some (.int a1)] [] h (f_X8_last h a0 a1) (fun w => w = v) from ?_) _ e rfl
  clear e
  unfold f_X8_last
  refine S_iload_n (dc_X8_last 0 rfl) rfl ?_
  refine S_if_ne 13 (dc_X8_last 1 rfl) rfl (fun c1 => ?_) (fun c1 => ?_)
  · refine S_iload_n (dc_X8_last 7 rfl) rfl ?_
    refine S_iconst_ 1 (dc_X8_last 8 rfl) rfl ?_
    refine S_isub (dc_X8_last 9 rfl) ?_
    exact S_iret (dc_X8_last 10 rfl) hT rfl (fun q => by cases q; exact hr)
  · refine S_aload_n (dc_X8_last 2 rfl) rfl ?_
    refine S_getI (dc_X8_last 3 rfl) ho fl_X8_28_6_2 (fun _ _ => rfl) (fun x5 e5 => ?_)
    refine S_iconst_ 1 (dc_X8_last 4 rfl) rfl ?_
    refine S_isub (dc_X8_last 5 rfl) ?_
    refine S_goto 16 (dc_X8_last 6 rfl) rfl ?_
    exact S_iret (dc_X8_last 10 rfl) hT rfl (fun q => by cases q; exact hr)
abbrev cX8_turnAt : ByteArray := prog_3_method_7_code
def yX8_turnAt : MethodName := ⟨"PegBands$Band", "turnAt", "(I)I"⟩
def tb_X8_turnAt : List (Nat × Instr × Nat) := [(0, .aload_n 0, 1), (1, .getfield 9, 3), (4, .aload_n 0, 1), (5, .iload_n 1, 1), (6, .invokevirtual 36, 3), (9, .iaload, 1), (10, .aload_n 0, 1), (11, .getfield 15, 3), (14, .aload_n 0, 1), (15, .iload_n 1, 1), (16, .invokevirtual 36, 3), (19, .iaload, 1), (20, .aload_n 0, 1), (21, .getfield 9, 3), (24, .iload_n 1, 1), (25, .iaload, 1), (26, .aload_n 0, 1), (27, .getfield 15, 3), (30, .iload_n 1, 1), (31, .iaload, 1), (32, .aload_n 0, 1), (33, .getfield 9, 3), (36, .aload_n 0, 1), (37, .iload_n 1, 1), (38, .invokevirtual 40, 3), (41, .iaload, 1), (42, .aload_n 0, 1), (43, .getfield 15, 3), (46, .aload_n 0, 1), (47, .iload_n 1, 1), (48, .invokevirtual 40, 3), (51, .iaload, 1), (52, .invokestatic 43, 3), (55, .ireturn, 1)]
theorem tk_X8_turnAt : ∀ q ∈ tb_X8_turnAt, decode cX8_turnAt q.1 = .ok q.2 := by decide +kernel
theorem dc_X8_turnAt (k : Nat) {pc n : Nat} {i : Instr} (h : tb_X8_turnAt[k]? = some (pc, i, n)) : decode cX8_turnAt pc = .ok (i, n) := tk_X8_turnAt (pc, i, n) (List.mem_of_getElem? h)
abbrev mX8_turnAt : e_M := (yX8_turnAt, cX8_turnAt, 2, some (.int), [])
theorem ok_X8_turnAt : e_mok mX8_turnAt 1 := ⟨q793, q117, by decide +kernel, fun sig h => by cases h; rfl⟩
def f_X8_turnAt (h : e_H) (a0 : Nat) (a1 : Int32) : Option Int32 :=
  Option.bind (e_fA h a0 6 0) (fun x1 =>
  Option.bind (f_X8_last h a0 a1) (fun x6 =>
  Option.bind (e_aI h x1 0 x6) (fun x9 =>
  Option.bind (e_fA h a0 6 1) (fun x11 =>
  Option.bind (f_X8_last h a0 a1) (fun x16 =>
  Option.bind (e_aI h x11 0 x16) (fun x19 =>
  Option.bind (e_fA h a0 6 0) (fun x21 =>
  Option.bind (e_aI h x21 0 a1) (fun x25 =>
  Option.bind (e_fA h a0 6 1) (fun x27 =>
  Option.bind (e_aI h x27 0 a1) (fun x31 =>
  Option.bind (e_fA h a0 6 0) (fun x33 =>
  Option.bind (f_X8_next h a0 a1) (fun x38 =>
  Option.bind (e_aI h x33 0 x38) (fun x41 =>
  Option.bind (e_fA h a0 6 1) (fun x43 =>
  Option.bind (f_X8_next h a0 a1) (fun x48 =>
  Option.bind (e_aI h x43 0 x48) (fun x51 =>
  Option.bind (f_X1_turn x9 x19 x25 x31 x41 x51) (fun x52 =>
  some x52)))))))))))))))))
set_option maxHeartbeats 4000000 in
set_option maxRecDepth 100000 in
theorem ct_X8_turnAt {l : Launch} {D : e_D} {B : Heap} {d : Nat} {h : e_H} {a0 : Nat} {a1 : Int32} {v : Int32} (hd : 2 ≤ d) (e : f_X8_turnAt h a0 a1 = some v) : e_Run l D B d mX8_turnAt [.ref a0, .int a1] h (.ok (some (.int v)), h) := by
  refine e_start [some (.ref a0), some (.int a1)] (by decide) rfl rfl rfl (Nat.le_of_ble_eq_true rfl) (fun K hl0 hD0 hB0 hM hd0 hr => ?_)
  subst hl0 hD0 hB0 hd0
  have ho : (k_M K).1.cls = "PegBands$Band" := by rw [hM]; rfl
  have hT : (k_M K).2.2.2.1 = some (.int) := by rw [hM]
  refine (show Sx K cX8_turnAt 0 [some (.ref a0), some (.int a1)] [] h (f_X8_turnAt h a0 a1) (fun w => w = v) from ?_) _ e rfl
  clear e
  unfold f_X8_turnAt
  refine S_aload_n (dc_X8_turnAt 0 rfl) rfl ?_
  refine S_getA (dc_X8_turnAt 1 rfl) ho fl_X8_9_6_0 (fun _ _ => rfl) (fun x1 e1 => ?_)
  refine S_aload_n (dc_X8_turnAt 2 rfl) rfl ?_
  refine S_iload_n (dc_X8_turnAt 3 rfl) rfl ?_
  refine S_roI (d := k_d K - 1) (e_callV (b := a0) (As := [.int a1]) (rest := [.ref x1]) ok_X8_last rfl (Nat.le_of_ble_eq_true rfl) (dc_X8_turnAt 4 rfl) ho q794 q795 (show e_cl[6]? = some (RX8, TX8, 4) from rfl) (e_sel.of q796) (e_fA_of e1).1 rfl (Nat.le_of_ble_eq_true rfl)) (by omega) (fun _ e => ct_X8_last (by omega) e) (fun x6 e6 => ?_)
  refine S_iald (dc_X8_turnAt 5 rfl) (fun x9 e9 => ?_)
  refine S_aload_n (dc_X8_turnAt 6 rfl) rfl ?_
  refine S_getA (dc_X8_turnAt 7 rfl) ho fl_X8_15_6_1 (fun _ _ => rfl) (fun x11 e11 => ?_)
  refine S_aload_n (dc_X8_turnAt 8 rfl) rfl ?_
  refine S_iload_n (dc_X8_turnAt 9 rfl) rfl ?_
  refine S_roI (d := k_d K - 1) (e_callV (b := a0) (As := [.int a1]) (rest := [.ref x11, .int x9]) ok_X8_last rfl (Nat.le_of_ble_eq_true rfl) (dc_X8_turnAt 10 rfl) ho q794 q795 (show e_cl[6]? = some (RX8, TX8, 4) from rfl) (e_sel.of q796) (e_fA_of e1).1 rfl (Nat.le_of_ble_eq_true rfl)) (by omega) (fun _ e => ct_X8_last (by omega) e) (fun x16 e16 => ?_)
  refine S_iald (dc_X8_turnAt 11 rfl) (fun x19 e19 => ?_)
  refine S_aload_n (dc_X8_turnAt 12 rfl) rfl ?_
  refine S_getA (dc_X8_turnAt 13 rfl) ho fl_X8_9_6_0 (fun _ _ => rfl) (fun x21 e21 => ?_)
  refine S_iload_n (dc_X8_turnAt 14 rfl) rfl ?_
  refine S_iald (dc_X8_turnAt 15 rfl) (fun x25 e25 => ?_)
  refine S_aload_n (dc_X8_turnAt 16 rfl) rfl ?_
  refine S_getA (dc_X8_turnAt 17 rfl) ho fl_X8_15_6_1 (fun _ _ => rfl) (fun x27 e27 => ?_)
  refine S_iload_n (dc_X8_turnAt 18 rfl) rfl ?_
  refine S_iald (dc_X8_turnAt 19 rfl) (fun x31 e31 => ?_)
  refine S_aload_n (dc_X8_turnAt 20 rfl) rfl ?_
  refine S_getA (dc_X8_turnAt 21 rfl) ho fl_X8_9_6_0 (fun _ _ => rfl) (fun x33 e33 => ?_)
  refine S_aload_n (dc_X8_turnAt 22 rfl) rfl ?_
  refine S_iload_n (dc_X8_turnAt 23 rfl) rfl ?_
  refine S_roI (d := k_d K - 1) (e_callV (b := a0) (As := [.int a1]) (rest := [.ref x33, .int x31, .int x25, .int x19, .int x9]) ok_X8_next rfl (Nat.le_of_ble_eq_true rfl) (dc_X8_turnAt 24 rfl) ho q798 q799 (show e_cl[6]? = some (RX8, TX8, 4) from rfl) (e_sel.of q800) (e_fA_of e1).1 rfl (Nat.le_of_ble_eq_true rfl)) (by omega) (fun _ e => ct_X8_next (by omega) e) (fun x38 e38 => ?_)
  refine S_iald (dc_X8_turnAt 25 rfl) (fun x41 e41 => ?_)
  refine S_aload_n (dc_X8_turnAt 26 rfl) rfl ?_
  refine S_getA (dc_X8_turnAt 27 rfl) ho fl_X8_15_6_1 (fun _ _ => rfl) (fun x43 e43 => ?_)
  refine S_aload_n (dc_X8_turnAt 28 rfl) rfl ?_
  refine S_iload_n (dc_X8_turnAt 29 rfl) rfl ?_
  refine S_roI (d := k_d K - 1) (e_callV (b := a0) (As := [.int a1]) (rest := [.ref x43, .int x41, .int x31, .int x25, .int x19, .int x9]) ok_X8_next rfl (Nat.le_of_ble_eq_true rfl) (dc_X8_turnAt 30 rfl) ho q798 q799 (show e_cl[6]? = some (RX8, TX8, 4) from rfl) (e_sel.of q800) (e_fA_of e1).1 rfl (Nat.le_of_ble_eq_true rfl)) (by omega) (fun _ e => ct_X8_next (by omega) e) (fun x48 e48 => ?_)
  refine S_iald (dc_X8_turnAt 31 rfl) (fun x51 e51 => ?_)
  refine S_roI (d := k_d K - 1) (e_callSN (As := [.int x9, .int x19, .int x25, .int x31, .int x41, .int x51]) (rest := []) ok_X1_turn rfl (Nat.le_of_ble_eq_true rfl) (dc_X8_turnAt 32 rfl) ho q802 q803 rfl (Nat.le_of_ble_eq_true rfl)) (by omega) (fun _ e => ct_X1_turn (by omega) e) (fun x52 e52 => ?_)
  exact S_iret (dc_X8_turnAt 33 rfl) hT rfl (fun q => by cases q; exact hr)
