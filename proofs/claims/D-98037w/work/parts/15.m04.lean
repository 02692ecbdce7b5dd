/-! printed by gen/gen.py -/
set_option maxRecDepth 100000
abbrev cX10_on : ByteArray := prog_18_method_18_code
def yX10_on : MethodName := ⟨"PegBandsModel", "on", "(JIII)J"⟩
def tb_X10_on : List (Nat × Instr × Nat) := [(0, .ldc2_w 143, 3), (3, .lload_n 0, 1), (4, .lmul, 1), (5, .iload_n 2, 1), (6, .i2l, 1), (7, .ladd, 1), (8, .ldc2_w 145, 3), (11, .lsub, 1), (12, .lstore 5, 2), (14, .iload_n 3, 1), (15, .ifCond .le 18, 3), (18, .ldc2_w 143, 3), (21, .lload 5, 2), (23, .lmul, 1), (24, .iload_n 3, 1), (25, .i2l, 1), (26, .ladd, 1), (27, .ldc2_w 145, 3), (30, .lsub, 1), (31, .lstore 5, 2), (33, .iload 4, 2), (35, .ifCond .le 20, 3), (38, .ldc2_w 143, 3), (41, .lload 5, 2), (43, .lmul, 1), (44, .iload 4, 2), (46, .i2l, 1), (47, .ladd, 1), (48, .ldc2_w 145, 3), (51, .lsub, 1), (52, .goto 5, 3), (55, .lload 5, 2), (57, .lreturn, 1)]
theorem tk_X10_on : ∀ q ∈ tb_X10_on, decode cX10_on q.1 = .ok q.2 := by decide +kernel
theorem dc_X10_on (k : Nat) {pc n : Nat} {i : Instr} (h : tb_X10_on[k]? = some (pc, i, n)) : decode cX10_on pc = .ok (i, n) := tk_X10_on (pc, i, n) (List.mem_of_getElem? h)
abbrev mX10_on : e_M := (yX10_on, cX10_on, 7, some (.long), [])
theorem ok_X10_on : e_mok mX10_on 4 := ⟨q1686, q119, by decide +kernel, fun sig h => by cases h; rfl⟩
def f_X10_on (a0 : Int64) (a2 : Int32) (a3 : Int32) (a4 : Int32) : Option Int64 :=
  Option.bind (some (((27 * a0) + (a2.toInt64)) - 96)) (fun x12 =>
  Option.bind (
      if a3 ≤ 0 then
        some x12
      else
        Option.bind (some (((27 * x12) + (a3.toInt64)) - 96)) (fun x31 =>
        some x31)
    : Option (Int64)) (fun x5_33_1 =>
  if a4 ≤ 0 then
    some x5_33_1
  else
    some (((27 * x5_33_1) + (a4.toInt64)) - 96)))
set_option maxHeartbeats 4000000 in
set_option maxRecDepth 100000 in
theorem ct_X10_on {l : Launch} {D : e_D} {B : Heap} {d : Nat} {h : e_H} {a0 : Int64} {a2 : Int32} {a3 : Int32} {a4 : Int32} {v : Int64} (hd : 1 ≤ d) (e : f_X10_on a0 a2 a3 a4 = some v) : e_Run l D B d mX10_on [.long a0, .int a2, .int a3, .int a4] h (.ok (some (.long v)), h) := by
  refine e_start [some (.long a0), none, some (.int a2), some (.int a3), some (.int a4), none, none] (by decide) rfl rfl rfl (Nat.le_of_ble_eq_true rfl) (fun K hl0 hD0 hB0 hM hd0 hr => ?_)
  subst hl0 hD0 hB0 hd0
  have ho : (k_M K).1.cls = "PegBandsModel" := by rw [hM]; rfl
  have hT : (k_M K).2.2.2.1 = some (.long) := by rw [hM]
  refine (show Sx K cX10_on 0 [some (.long a0), none, some (.int a2), some (.int a3), some (.int a4), none, none] [] h (f_X10_on a0 a2 a3 a4) (fun w => w = v) from ?_) _ e rfl
  clear e
  unfold f_X10_on
  refine S_ldc2 27 (dc_X10_on 0 rfl) ho q1668 ?_
  refine S_lload_n (dc_X10_on 1 rfl) rfl ?_
  refine S_lmul (dc_X10_on 2 rfl) ?_
  refine S_iload_n (dc_X10_on 3 rfl) rfl ?_
  refine S_i2l (dc_X10_on 4 rfl) ?_
  refine S_ladd (dc_X10_on 5 rfl) ?_
  refine S_ldc2 96 (dc_X10_on 6 rfl) ho q1669 ?_
  refine S_lsub (dc_X10_on 7 rfl) ?_
  refine Sx.nameJ (fun x12 n12 => ?_)
  refine S_lstore (L' := [some (.long a0), none, some (.int a2), some (.int a3), some (.int a4), some (.long x12), none]) (dc_X10_on 8 rfl) rfl ?_
  refine S_iload_n (dc_X10_on 9 rfl) rfl ?_
  refine Sx.regK1 (pc2 := 33) (L2 := fun (x5_33_1 : Int64) => [none, none, none, none, some (.int a4), some (.long x5_33_1), none]) (st2 := fun (x5_33_1 : Int64) => []) (h2 := fun (x5_33_1 : Int64) => h) ?_ (fun Q1 hK1 => ?_)
  · intro x5_33_1
    show Sx K cX10_on 33 [none, none, none, none, some (.int a4), some (.long x5_33_1), none] [] h _ _
    refine S_iload (dc_X10_on 20 rfl) rfl ?_
    refine S_if_le 55 (dc_X10_on 21 rfl) rfl (fun c35 => ?_) (fun c35 => ?_)
    · refine S_lload (dc_X10_on 31 rfl) rfl ?_
      exact S_lret (dc_X10_on 32 rfl) hT (fun q => by cases q; exact hr)
    · refine S_ldc2 27 (dc_X10_on 22 rfl) ho q1668 ?_
      refine S_lload (dc_X10_on 23 rfl) rfl ?_
      refine S_lmul (dc_X10_on 24 rfl) ?_
      refine S_iload (dc_X10_on 25 rfl) rfl ?_
      refine S_i2l (dc_X10_on 26 rfl) ?_
      refine S_ladd (dc_X10_on 27 rfl) ?_
      refine S_ldc2 96 (dc_X10_on 28 rfl) ho q1669 ?_
      refine S_lsub (dc_X10_on 29 rfl) ?_
      refine S_goto 57 (dc_X10_on 30 rfl) rfl ?_
      exact S_lret (dc_X10_on 32 rfl) hT (fun q => by cases q; exact hr)
  · have hK1 : ∀ (x5_33_1 : Int64), Sx K cX10_on 33 [none, none, none, none, some (.int a4), some (.long x5_33_1), none] [] h (some x5_33_1) Q1 := hK1
    refine S_if_le 33 (dc_X10_on 10 rfl) rfl (fun c15 => ?_) (fun c15 => ?_)
    · refine Sx.cut [false, true, false, false, true, true, true] ?_
      exact hK1 x12
    · refine S_ldc2 27 (dc_X10_on 11 rfl) ho q1668 ?_
      refine S_lload (dc_X10_on 12 rfl) rfl ?_
      refine S_lmul (dc_X10_on 13 rfl) ?_
      refine S_iload_n (dc_X10_on 14 rfl) rfl ?_
      refine S_i2l (dc_X10_on 15 rfl) ?_
      refine S_ladd (dc_X10_on 16 rfl) ?_
      refine S_ldc2 96 (dc_X10_on 17 rfl) ho q1669 ?_
      refine S_lsub (dc_X10_on 18 rfl) ?_
      refine Sx.nameJ (fun x31 n31 => ?_)
      refine S_lstore (L' := [some (.long a0), none, some (.int a2), some (.int a3), some (.int a4), some (.long x31), none]) (dc_X10_on 19 rfl) rfl ?_
      refine Sx.cut [false, true, false, false, true, true, true] ?_
      exact hK1 x31
abbrev cX10_wordOf : ByteArray := prog_18_method_19_code
def yX10_wordOf : MethodName := ⟨"PegBandsModel", "wordOf", "(I)J"⟩
def tb_X10_wordOf : List (Nat × Instr × Nat) := [(0, .iload_n 0, 1), (1, .tableswitch 289 0 15 #[79, 98, 110, 121, 133, 143, 153, 163, 174, 185, 195, 214, 226, 238, 248, 268], 79), (80, .bipush 98, 2), (82, .bipush 111, 2), (84, .bipush 97, 2), (86, .bipush 114, 2), (88, .invokestatic 147, 3), (91, .bipush 100, 2), (93, .iconst 0, 1), (94, .iconst 0, 1), (95, .invokestatic 151, 3), (98, .lreturn, 1), (99, .bipush 98, 2), (101, .bipush 101, 2), (103, .bipush 108, 2), (105, .bipush 108, 2), (107, .invokestatic 147, 3), (110, .lreturn, 1), (111, .bipush 111, 2), (113, .bipush 117, 2), (115, .bipush 116, 2), (117, .iconst 0, 1), (118, .invokestatic 147, 3), (121, .lreturn, 1), (122, .bipush 98, 2), (124, .bipush 97, 2), (126, .bipush 110, 2), (128, .bipush 100, 2), (130, .invokestatic 147, 3), (133, .lreturn, 1), (134, .bipush 97, 2), (136, .bipush 116, 2), (138, .iconst 0, 1), (139, .iconst 0, 1), (140, .invokestatic 147, 3), (143, .lreturn, 1), (144, .bipush 98, 2), (146, .bipush 121, 2), (148, .iconst 0, 1), (149, .iconst 0, 1), (150, .invokestatic 147, 3), (153, .lreturn, 1), (154, .bipush 111, 2), (156, .bipush 114, 2), (158, .iconst 0, 1), (159, .iconst 0, 1), (160, .invokestatic 147, 3), (163, .lreturn, 1), (164, .bipush 97, 2), (166, .bipush 110, 2), (168, .bipush 100, 2), (170, .iconst 0, 1), (171, .invokestatic 147, 3), (174, .lreturn, 1), (175, .bipush 110, 2), (177, .bipush 111, 2), (179, .bipush 116, 2), (181, .iconst 0, 1), (182, .invokestatic 147, 3), (185, .lreturn, 1), (186, .bipush 105, 2), (188, .bipush 110, 2), (190, .iconst 0, 1), (191, .iconst 0, 1), (192, .invokestatic 147, 3), (195, .lreturn, 1), (196, .bipush 97, 2), (198, .bipush 108, 2), (200, .bipush 105, 2), (202, .bipush 107, 2), (204, .invokestatic 147, 3), (207, .bipush 101, 2), (209, .iconst 0, 1), (210, .iconst 0, 1), (211, .invokestatic 151, 3), (214, .lreturn, 1), (215, .bipush 98, 2), (217, .bipush 101, 2), (219, .bipush 110, 2), (221, .bipush 116, 2), (223, .invokestatic 147, 3), (226, .lreturn, 1), (227, .bipush 97, 2), (229, .bipush 114, 2), (231, .bipush 101, 2), (233, .bipush 97, 2), (235, .invokestatic 147, 3), (238, .lreturn, 1), (239, .bipush 111, 2), (241, .bipush 110, 2), (243, .iconst 0, 1), (244, .iconst 0, 1), (245, .invokestatic 147, 3), (248, .lreturn, 1), (249, .bipush 119, 2), (251, .bipush 105, 2), (253, .bipush 116, 2), (255, .bipush 104, 2), (257, .invokestatic 147, 3), (260, .bipush 105, 2), (262, .bipush 110, 2), (264, .iconst 0, 1), (265, .invokestatic 151, 3), (268, .lreturn, 1), (269, .bipush 99, 2), (271, .bipush 111, 2), (273, .bipush 114, 2), (275, .bipush 110, 2), (277, .invokestatic 147, 3), (280, .bipush 101, 2), (282, .bipush 114, 2), (284, .bipush 115, 2), (286, .invokestatic 151, 3), (289, .lreturn, 1), (290, .bipush 114, 2), (292, .bipush 105, 2), (294, .bipush 103, 2), (296, .bipush 104, 2), (298, .invokestatic 147, 3), (301, .bipush 116, 2), (303, .iconst 0, 1), (304, .iconst 0, 1), (305, .invokestatic 151, 3), (308, .lreturn, 1)]
theorem tk_X10_wordOf : ∀ q ∈ tb_X10_wordOf, decode cX10_wordOf q.1 = .ok q.2 := by decide +kernel
theorem dc_X10_wordOf (k : Nat) {pc n : Nat} {i : Instr} (h : tb_X10_wordOf[k]? = some (pc, i, n)) : decode cX10_wordOf pc = .ok (i, n) := tk_X10_wordOf (pc, i, n) (List.mem_of_getElem? h)
abbrev mX10_wordOf : e_M := (yX10_wordOf, cX10_wordOf, 1, some (.long), [])
theorem ok_X10_wordOf : e_mok mX10_wordOf 1 := ⟨q1680, q119, by decide +kernel, fun sig h => by cases h; rfl⟩
def f_X10_wordOf (a0 : Int32) : Option Int64 :=
  if a0 = 0 then
    Option.bind (f_X10_spelt 98 111 97 114) (fun x88 =>
    Option.bind (f_X10_on x88 100 0 0) (fun x95 =>
    some x95))
  else
  if a0 = 1 then
    Option.bind (f_X10_spelt 98 101 108 108) (fun x107 =>
    some x107)
  else
  if a0 = 2 then
    Option.bind (f_X10_spelt 111 117 116 0) (fun x118 =>
    some x118)
  else
  if a0 = 3 then
    Option.bind (f_X10_spelt 98 97 110 100) (fun x130 =>
    some x130)
  else
  if a0 = 4 then
    Option.bind (f_X10_spelt 97 116 0 0) (fun x140 =>
    some x140)
  else
  if a0 = 5 then
    Option.bind (f_X10_spelt 98 121 0 0) (fun x150 =>
    some x150)
  else
  if a0 = 6 then
    Option.bind (f_X10_spelt 111 114 0 0) (fun x160 =>
    some x160)
  else
  if a0 = 7 then
    Option.bind (f_X10_spelt 97 110 100 0) (fun x171 =>
    some x171)
  else
  if a0 = 8 then
    Option.bind (f_X10_spelt 110 111 116 0) (fun x182 =>
    some x182)
  else
  if a0 = 9 then
    Option.bind (f_X10_spelt 105 110 0 0) (fun x192 =>
    some x192)
  else
  if a0 = 10 then
    Option.bind (f_X10_spelt 97 108 105 107) (fun x204 =>
    Option.bind (f_X10_on x204 101 0 0) (fun x211 =>
    some x211))
  else
  if a0 = 11 then
    Option.bind (f_X10_spelt 98 101 110 116) (fun x223 =>
    some x223)
  else
  if a0 = 12 then
    Option.bind (f_X10_spelt 97 114 101 97) (fun x235 =>
    some x235)
  else
  if a0 = 13 then
    Option.bind (f_X10_spelt 111 110 0 0) (fun x245 =>
    some x245)
  else
  if a0 = 14 then
    Option.bind (f_X10_spelt 119 105 116 104) (fun x257 =>
    Option.bind (f_X10_on x257 105 110 0) (fun x265 =>
    some x265))
  else
  if a0 = 15 then
    Option.bind (f_X10_spelt 99 111 114 110) (fun x277 =>
    Option.bind (f_X10_on x277 101 114 115) (fun x286 =>
    some x286))
  else
    Option.bind (f_X10_spelt 114 105 103 104) (fun x298 =>
    Option.bind (f_X10_on x298 116 0 0) (fun x305 =>
    some x305))
set_option maxHeartbeats 4000000 in
set_option maxRecDepth 100000 in
theorem ct_X10_wordOf {l : Launch} {D : e_D} {B : Heap} {d : Nat} {h : e_H} {a0 : Int32} {v : Int64} (hd : 2 ≤ d) (e : f_X10_wordOf a0 = some v) : e_Run l D B d mX10_wordOf [.int a0] h (.ok (some (.long v)), h) := by
  refine e_start [some (.int a0)] (by decide) rfl rfl rfl (Nat.le_of_ble_eq_true rfl) (fun K hl0 hD0 hB0 hM hd0 hr => ?_)
  subst hl0 hD0 hB0 hd0
  have ho : (k_M K).1.cls = "PegBandsModel" := by rw [hM]; rfl
  have hT : (k_M K).2.2.2.1 = some (.long) := by rw [hM]
  refine (show Sx K cX10_wordOf 0 [some (.int a0)] [] h (f_X10_wordOf a0) (fun w => w = v) from ?_) _ e rfl
  clear e
  unfold f_X10_wordOf
  refine S_iload_n (dc_X10_wordOf 0 rfl) rfl ?_
  refine Sx.case (fun c1_0 => ?_) (fun c1_0 => ?_)
  · refine S_tsIn 80 c1_0 (dc_X10_wordOf 1 rfl) (by decide) (by decide) rfl rfl ?_
    refine S_bipush_ 98 (dc_X10_wordOf 2 rfl) rfl ?_
    refine S_bipush_ 111 (dc_X10_wordOf 3 rfl) rfl ?_
    refine S_bipush_ 97 (dc_X10_wordOf 4 rfl) rfl ?_
    refine S_bipush_ 114 (dc_X10_wordOf 5 rfl) rfl ?_
    refine S_roJ (d := k_d K - 1) (e_callS (As := [.int 98, .int 111, .int 97, .int 114]) (rest := []) ok_X10_spelt rfl (Nat.le_of_ble_eq_true rfl) (dc_X10_wordOf 6 rfl) ho q1681 q1682 rfl (Nat.le_of_ble_eq_true rfl)) (by omega) (fun _ e => ct_X10_spelt (by omega) e) (fun x88 e88 => ?_)
    refine S_bipush_ 100 (dc_X10_wordOf 7 rfl) rfl ?_
    refine S_iconst_ 0 (dc_X10_wordOf 8 rfl) rfl ?_
    refine S_iconst_ 0 (dc_X10_wordOf 9 rfl) rfl ?_
    refine S_roJ (d := k_d K - 1) (e_callS (As := [.long x88, .int 100, .int 0, .int 0]) (rest := []) ok_X10_on rfl (Nat.le_of_ble_eq_true rfl) (dc_X10_wordOf 10 rfl) ho q1684 q1685 rfl (Nat.le_of_ble_eq_true rfl)) (by omega) (fun _ e => ct_X10_on (by omega) e) (fun x95 e95 => ?_)
    exact S_lret (dc_X10_wordOf 11 rfl) hT (fun q => by cases q; exact hr)
  refine Sx.case (fun c1_1 => ?_) (fun c1_1 => ?_)
  · refine S_tsIn 99 c1_1 (dc_X10_wordOf 1 rfl) (by decide) (by decide) rfl rfl ?_
    refine S_bipush_ 98 (dc_X10_wordOf 12 rfl) rfl ?_
    refine S_bipush_ 101 (dc_X10_wordOf 13 rfl) rfl ?_
    refine S_bipush_ 108 (dc_X10_wordOf 14 rfl) rfl ?_
    refine S_bipush_ 108 (dc_X10_wordOf 15 rfl) rfl ?_
    refine S_roJ (d := k_d K - 1) (e_callS (As := [.int 98, .int 101, .int 108, .int 108]) (rest := []) ok_X10_spelt rfl (Nat.le_of_ble_eq_true rfl) (dc_X10_wordOf 16 rfl) ho q1681 q1682 rfl (Nat.le_of_ble_eq_true rfl)) (by omega) (fun _ e => ct_X10_spelt (by omega) e) (fun x107 e107 => ?_)
    exact S_lret (dc_X10_wordOf 17 rfl) hT (fun q => by cases q; exact hr)
  refine Sx.case (fun c1_2 => ?_) (fun c1_2 => ?_)
  · refine S_tsIn 111 c1_2 (dc_X10_wordOf 1 rfl) (by decide) (by decide) rfl rfl ?_
    refine S_bipush_ 111 (dc_X10_wordOf 18 rfl) rfl ?_
    refine S_bipush_ 117 (dc_X10_wordOf 19 rfl) rfl ?_
    refine S_bipush_ 116 (dc_X10_wordOf 20 rfl) rfl ?_
    refine S_iconst_ 0 (dc_X10_wordOf 21 rfl) rfl ?_
    refine S_roJ (d := k_d K - 1) (e_callS (As := [.int 111, .int 117, .int 116, .int 0]) (rest := []) ok_X10_spelt rfl (Nat.le_of_ble_eq_true rfl) (dc_X10_wordOf 22 rfl) ho q1681 q1682 rfl (Nat.le_of_ble_eq_true rfl)) (by omega) (fun _ e => ct_X10_spelt (by omega) e) (fun x118 e118 => ?_)
    exact S_lret (dc_X10_wordOf 23 rfl) hT (fun q => by cases q; exact hr)
  refine Sx.case (fun c1_3 => ?_) (fun c1_3 => ?_)
  · refine S_tsIn 122 c1_3 (dc_X10_wordOf 1 rfl) (by decide) (by decide) rfl rfl ?_
    refine S_bipush_ 98 (dc_X10_wordOf 24 rfl) rfl ?_
    refine S_bipush_ 97 (dc_X10_wordOf 25 rfl) rfl ?_
    refine S_bipush_ 110 (dc_X10_wordOf 26 rfl) rfl ?_
    refine S_bipush_ 100 (dc_X10_wordOf 27 rfl) rfl ?_
    refine S_roJ (d := k_d K - 1) (e_callS (As := [.int 98, .int 97, .int 110, .int 100]) (rest := []) ok_X10_spelt rfl (Nat.le_of_ble_eq_true rfl) (dc_X10_wordOf 28 rfl) ho q1681 q1682 rfl (Nat.le_of_ble_eq_true rfl)) (by omega) (fun _ e => ct_X10_spelt (by omega) e) (fun x130 e130 => ?_)
    exact S_lret (dc_X10_wordOf 29 rfl) hT (fun q => by cases q; exact hr)
  refine Sx.case (fun c1_4 => ?_) (fun c1_4 => ?_)
  · refine S_tsIn 134 c1_4 (dc_X10_wordOf 1 rfl) (by decide) (by decide) rfl rfl ?_
    refine S_bipush_ 97 (dc_X10_wordOf 30 rfl) rfl ?_
    refine S_bipush_ 116 (dc_X10_wordOf 31 rfl) rfl ?_
    refine S_iconst_ 0 (dc_X10_wordOf 32 rfl) rfl ?_
    refine S_iconst_ 0 (dc_X10_wordOf 33 rfl) rfl ?_
    refine S_roJ (d := k_d K - 1) (e_callS (As := [.int 97, .int 116, .int 0, .int 0]) (rest := []) ok_X10_spelt rfl (Nat.le_of_ble_eq_true rfl) (dc_X10_wordOf 34 rfl) ho q1681 q1682 rfl (Nat.le_of_ble_eq_true rfl)) (by omega) (fun _ e => ct_X10_spelt (by omega) e) (fun x140 e140 => ?_)
    exact S_lret (dc_X10_wordOf 35 rfl) hT (fun q => by cases q; exact hr)
  refine Sx.case (fun c1_5 => ?_) (fun c1_5 => ?_)
  · refine S_tsIn 144 c1_5 (dc_X10_wordOf 1 rfl) (by decide) (by decide) rfl rfl ?_
    refine S_bipush_ 98 (dc_X10_wordOf 36 rfl) rfl ?_
    refine S_bipush_ 121 (dc_X10_wordOf 37 rfl) rfl ?_
    refine S_iconst_ 0 (dc_X10_wordOf 38 rfl) rfl ?_
    refine S_iconst_ 0 (dc_X10_wordOf 39 rfl) rfl ?_
    refine S_roJ (d := k_d K - 1) (e_callS (As := [.int 98, .int 121, .int 0, .int 0]) (rest := []) ok_X10_spelt rfl (Nat.le_of_ble_eq_true rfl) (dc_X10_wordOf 40 rfl) ho q1681 q1682 rfl (Nat.le_of_ble_eq_true rfl)) (by omega) (fun _ e => ct_X10_spelt (by omega) e) (fun x150 e150 => ?_)
    exact S_lret (dc_X10_wordOf 41 rfl) hT (fun q => by cases q; exact hr)
  refine Sx.case (fun c1_6 => ?_) (fun c1_6 => ?_)
  · refine S_tsIn 154 c1_6 (dc_X10_wordOf 1 rfl) (by decide) (by decide) rfl rfl ?_
    refine S_bipush_ 111 (dc_X10_wordOf 42 rfl) rfl ?_
    refine S_bipush_ 114 (dc_X10_wordOf 43 rfl) rfl ?_
    refine S_iconst_ 0 (dc_X10_wordOf 44 rfl) rfl ?_
    refine S_iconst_ 0 (dc_X10_wordOf 45 rfl) rfl ?_
    refine S_roJ (d := k_d K - 1) (e_callS (As := [.int 111, .int 114, .int 0, .int 0]) (rest := []) ok_X10_spelt rfl (Nat.le_of_ble_eq_true rfl) (dc_X10_wordOf 46 rfl) ho q1681 q1682 rfl (Nat.le_of_ble_eq_true rfl)) (by omega) (fun _ e => ct_X10_spelt (by omega) e) (fun x160 e160 => ?_)
    exact S_lret (dc_X10_wordOf 47 rfl) hT (fun q => by cases q; exact hr)
  refine Sx.case (fun c1_7 => ?_) (fun c1_7 => ?_)
  · refine S_tsIn 164 c1_7 (dc_X10_wordOf 1 rfl) (by decide) (by decide) rfl rfl ?_
    refine S_bipush_ 97 (dc_X10_wordOf 48 rfl) rfl ?_
    refine S_bipush_ 110 (dc_X10_wordOf 49 rfl) rfl ?_
    refine S_bipush_ 100 (dc_X10_wordOf 50 rfl) rfl ?_
    refine S_iconst_ 0 (dc_X10_wordOf 51 rfl) rfl ?_
    refine S_roJ (d := k_d K - 1) (e_callS (As := [.int 97, .int 110, .int 100, .int 0]) (rest := []) ok_X10_spelt rfl (Nat.le_of_ble_eq_true rfl) (dc_X10_wordOf 52 rfl) ho q1681 q1682 rfl (Nat.le_of_ble_eq_true rfl)) (by omega) (fun _ e => ct_X10_spelt (by omega) e) (fun x171 e171 => ?_)
    exact S_lret (dc_X10_wordOf 53 rfl) hT (fun q => by cases q; exact hr)
  refine Sx.case (fun c1_8 => ?_) (fun c1_8 => ?_)
  · refine S_tsIn 175 c1_8 (dc_X10_wordOf 1 rfl) (by decide) (by decide) rfl rfl ?_
    refine S_bipush_ 110 (dc_X10_wordOf 54 rfl) rfl ?_
    refine S_bipush_ 111 (dc_X10_wordOf 55 rfl) rfl ?_
    refine S_bipush_ 116 (dc_X10_wordOf 56 rfl) rfl ?_
    refine S_iconst_ 0 (dc_X10_wordOf 57 rfl) rfl ?_
    refine S_roJ (d := k_d K - 1) (e_callS (As := [.int 110, .int 111, .int 116, .int 0]) (rest := []) ok_X10_spelt rfl (Nat.le_of_ble_eq_true rfl) (dc_X10_wordOf 58 rfl) ho q1681 q1682 rfl (Nat.le_of_ble_eq_true rfl)) (by omega) (fun _ e => ct_X10_spelt (by omega) e) (fun x182 e182 => ?_)
    exact S_lret (dc_X10_wordOf 59 rfl) hT (fun q => by cases q; exact hr)
  refine Sx.case (fun c1_9 => ?_) (fun c1_9 => ?_)
  · refine S_tsIn 186 c1_9 (dc_X10_wordOf 1 rfl) (by decide) (by decide) rfl rfl ?_
    refine S_bipush_ 105 (dc_X10_wordOf 60 rfl) rfl ?_
    refine S_bipush_ 110 (dc_X10_wordOf 61 rfl) rfl ?_
    refine S_iconst_ 0 (dc_X10_wordOf 62 rfl) rfl ?_
    refine S_iconst_ 0 (dc_X10_wordOf 63 rfl) rfl ?_
    refine S_roJ (d := k_d K - 1) (e_callS (As := [.int 105, .int 110, .int 0, .int 0]) (rest := []) ok_X10_spelt rfl (Nat.le_of_ble_eq_true rfl) (dc_X10_wordOf 64 rfl) ho q1681 q1682 rfl (Nat.le_of_ble_eq_true rfl)) (by omega) (fun _ e => ct_X10_spelt (by omega) e) (fun x192 e192 => ?_)
    exact S_lret (dc_X10_wordOf 65 rfl) hT (fun q => by cases q; exact hr)
  refine Sx.case (fun c1_10 => ?_) (fun c1_10 => ?_)
  · refine S_tsIn 196 c1_10 (dc_X10_wordOf 1 rfl) (by decide) (by decide) rfl rfl ?_
    refine S_bipush_ 97 (dc_X10_wordOf 66 rfl) rfl ?_
    refine S_bipush_ 108 (dc_X10_wordOf 67 rfl) rfl ?_
    refine S_bipush_ 105 (dc_X10_wordOf 68 rfl) rfl ?_
    refine S_bipush_ 107 (dc_X10_wordOf 69 rfl) rfl ?_
    refine S_roJ (d := k_d K - 1) (e_callS (As := [.int 97, .int 108, .int 105, .int 107]) (rest := []) ok_X10_spelt rfl (Nat.le_of_ble_eq_true rfl) (dc_X10_wordOf 70 rfl) ho q1681 q1682 rfl (Nat.le_of_ble_eq_true rfl)) (by omega) (fun _ e => ct_X10_spelt (by omega) e) (fun x204 e204 => ?_)
    refine S_bipush_ 101 (dc_X10_wordOf 71 rfl) rfl ?_
    refine S_iconst_ 0 (dc_X10_wordOf 72 rfl) rfl ?_
    refine S_iconst_ 0 (dc_X10_wordOf 73 rfl) rfl ?_
    refine S_roJ (d := k_d K - 1) (e_callS (As := [.long x204, .int 101, .int 0, .int 0]) (rest := []) ok_X10_on rfl (Nat.le_of_ble_eq_true rfl) (dc_X10_wordOf 74 rfl) ho q1684 q1685 rfl (Nat.le_of_ble_eq_true rfl)) (by omega) (fun _ e => ct_X10_on (by omega) e) (fun x211 e211 => ?_)
    exact S_lret (dc_X10_wordOf 75 rfl) hT (fun q => by cases q; exact hr)
  refine Sx.case (fun c1_11 => ?_) (fun c1_11 => ?_)
  · refine S_tsIn 215 c1_11 (dc_X10_wordOf 1 rfl) (by decide) (by decide) rfl rfl ?_
    refine S_bipush_ 98 (dc_X10_wordOf 76 rfl) rfl ?_
    refine S_bipush_ 101 (dc_X10_wordOf 77 rfl) rfl ?_
    refine S_bipush_ 110 (dc_X10_wordOf 78 rfl) rfl ?_
    refine S_bipush_ 116 (dc_X10_wordOf 79 rfl) rfl ?_
    refine S_roJ (d := k_d K - 1) (e_callS (As := [.int 98, .int 101, .int 110, .int 116]) (rest := []) ok_X10_spelt rfl (Nat.le_of_ble_eq_true rfl) (dc_X10_wordOf 80 rfl) ho q1681 q1682 rfl (Nat.le_of_ble_eq_true rfl)) (by omega) (fun _ e => ct_X10_spelt (by omega) e) (fun x223 e223 => ?_)
    exact S_lret (dc_X10_wordOf 81 rfl) hT (fun q => by cases q; exact hr)
  refine Sx.case (fun c1_12 => ?_) (fun c1_12 => ?_)
  · refine S_tsIn 227 c1_12 (dc_X10_wordOf 1 rfl) (by decide) (by decide) rfl rfl ?_
    refine S_bipush_ 97 (dc_X10_wordOf 82 rfl) rfl ?_
    refine S_bipush_ 114 (dc_X10_wordOf 83 rfl) rfl ?_
    refine S_bipush_ 101 (dc_X10_wordOf 84 rfl) rfl ?_
    refine S_bipush_ 97 (dc_X10_wordOf 85 rfl) rfl ?_
    refine S_roJ (d := k_d K - 1) (e_callS (As := [.int 97, .int 114, .int 101, .int 97]) (rest := []) ok_X10_spelt rfl (Nat.le_of_ble_eq_true rfl) (dc_X10_wordOf 86 rfl) ho q1681 q1682 rfl (Nat.le_of_ble_eq_true rfl)) (by omega) (fun _ e => ct_X10_spelt (by omega) e) (fun x235 e235 => ?_)
    exact S_lret (dc_X10_wordOf 87 rfl) hT (fun q => by cases q; exact hr)
  refine Sx.case (fun c1_13 => ?_) (fun c1_13 => ?_)
  · refine S_tsIn 239 c1_13 (dc_X10_wordOf 1 rfl) (by decide) (by decide) rfl rfl ?_
    refine S_bipush_ 111 (dc_X10_wordOf 88 rfl) rfl ?_
    refine S_bipush_ 110 (dc_X10_wordOf 89 rfl) rfl ?_
    refine S_iconst_ 0 (dc_X10_wordOf 90 rfl) rfl ?_
    refine S_iconst_ 0 (dc_X10_wordOf 91 rfl) rfl ?_
    refine S_roJ (d := k_d K - 1) (e_callS (As := [.int 111, .int 110, .int 0, .int 0]) (rest := []) ok_X10_spelt rfl (Nat.le_of_ble_eq_true rfl) (dc_X10_wordOf 92 rfl) ho q1681 q1682 rfl (Nat.le_of_ble_eq_true rfl)) (by omega) (fun _ e => ct_X10_spelt (by omega) e) (fun x245 e245 => ?_)
    exact S_lret (dc_X10_wordOf 93 rfl) hT (fun q => by cases q; exact hr)
  refine Sx.case (fun c1_14 => ?_) (fun c1_14 => ?_)
  · refine S_tsIn 249 c1_14 (dc_X10_wordOf 1 rfl) (by decide) (by decide) rfl rfl ?_
    refine S_bipush_ 119 (dc_X10_wordOf 94 rfl) rfl ?_
    refine S_bipush_ 105 (dc_X10_wordOf 95 rfl) rfl ?_
    refine S_bipush_ 116 (dc_X10_wordOf 96 rfl) rfl ?_
    refine S_bipush_ 104 (dc_X10_wordOf 97 rfl) rfl ?_
    refine S_roJ (d := k_d K - 1) (e_callS (As := [.int 119, .int 105, .int 116, .int 104]) (rest := []) ok_X10_spelt rfl (Nat.le_of_ble_eq_true rfl) (dc_X10_wordOf 98 rfl) ho q1681 q1682 rfl (Nat.le_of_ble_eq_true rfl)) (by omega) (fun _ e => ct_X10_spelt (by omega) e) (fun x257 e257 => ?_)
    refine S_bipush_ 105 (dc_X10_wordOf 99 rfl) rfl ?_
    refine S_bipush_ 110 (dc_X10_wordOf 100 rfl) rfl ?_
    refine S_iconst_ 0 (dc_X10_wordOf 101 rfl) rfl ?_
    refine S_roJ (d := k_d K - 1) (e_callS (As := [.long x257, .int 105, .int 110, .int 0]) (rest := []) ok_X10_on rfl (Nat.le_of_ble_eq_true rfl) (dc_X10_wordOf 102 rfl) ho q1684 q1685 rfl (Nat.le_of_ble_eq_true rfl)) (by omega) (fun _ e => ct_X10_on (by omega) e) (fun x265 e265 => ?_)
    exact S_lret (dc_X10_wordOf 103 rfl) hT (fun q => by cases q; exact hr)
  refine Sx.case (fun c1_15 => ?_) (fun c1_15 => ?_)
  · refine S_tsIn 269 c1_15 (dc_X10_wordOf 1 rfl) (by decide) (by decide) rfl rfl ?_
    refine S_bipush_ 99 (dc_X10_wordOf 104 rfl) rfl ?_
    refine S_bipush_ 111 (dc_X10_wordOf 105 rfl) rfl ?_
    refine S_bipush_ 114 (dc_X10_wordOf 106 rfl) rfl ?_
    refine S_bipush_ 110 (dc_X10_wordOf 107 rfl) rfl ?_
    refine S_roJ (d := k_d K - 1) (e_callS (As := [.int 99, .int 111, .int 114, .int 110]) (rest := []) ok_X10_spelt rfl (Nat.le_of_ble_eq_true rfl) (dc_X10_wordOf 108 rfl) ho q1681 q1682 rfl (Nat.le_of_ble_eq_true rfl)) (by omega) (fun _ e => ct_X10_spelt (by omega) e) (fun x277 e277 => ?_)
    refine S_bipush_ 101 (dc_X10_wordOf 109 rfl) rfl ?_
    refine S_bipush_ 114 (dc_X10_wordOf 110 rfl) rfl ?_
    refine S_bipush_ 115 (dc_X10_wordOf 111 rfl) rfl ?_
    refine S_roJ (d := k_d K - 1) (e_callS (As := [.long x277, .int 101, .int 114, .int 115]) (rest := []) ok_X10_on rfl (Nat.le_of_ble_eq_true rfl) (dc_X10_wordOf 112 rfl) ho q1684 q1685 rfl (Nat.le_of_ble_eq_true rfl)) (by omega) (fun _ e => ct_X10_on (by omega) e) (fun x286 e286 => ?_)
    exact S_lret (dc_X10_wordOf 113 rfl) hT (fun q => by cases q; exact hr)
  refine S_tsOut 290 (dc_X10_wordOf 1 rfl) (by have := e_neI (k := 0) c1_0 (by decide); have := e_neI (k := 1) c1_1 (by decide); have := e_neI (k := 2) c1_2 (by decide); have := e_neI (k := 3) c1_3 (by decide); have := e_neI (k := 4) c1_4 (by decide); have := e_neI (k := 5) c1_5 (by decide); have := e_neI (k := 6) c1_6 (by decide); have := e_neI (k := 7) c1_7 (by decide); have := e_neI (k := 8) c1_8 (by decide); have := e_neI (k := 9) c1_9 (by decide); have := e_neI (k := 10) c1_10 (by decide); have := e_neI (k := 11) c1_11 (by decide); have := e_neI (k := 12) c1_12 (by decide); have := e_neI (k := 13) c1_13 (by decide); have := e_neI (k := 14) c1_14 (by decide); have := e_neI (k := 15) c1_15 (by decide); omega) rfl ?_
  refine S_bipush_ 114 (dc_X10_wordOf 114 rfl) rfl ?_
  refine S_bipush_ 105 (dc_X10_wordOf 115 rfl) rfl ?_
  refine S_bipush_ 103 (dc_X10_wordOf 116 rfl) rfl ?_
  refine S_bipush_ 104 (dc_X10_wordOf 117 rfl) rfl ?_
  refine S_roJ (d := k_d K - 1) (e_callS (As := [.int 114, .int 105, .int 103, .int 104]) (rest := []) ok_X10_spelt rfl (Nat.le_of_ble_eq_true rfl) (dc_X10_wordOf 118 rfl) ho q1681 q1682 rfl (Nat.le_of_ble_eq_true rfl)) (by omega) (fun _ e => ct_X10_spelt (by omega) e) (fun x298 e298 => ?_)
  refine S_bipush_ 116 (dc_X10_wordOf 119 rfl) rfl ?_
  refine S_iconst_ 0 (dc_X10_wordOf 120 rfl) rfl ?_
  refine S_iconst_ 0 (dc_X10_wordOf 121 rfl) rfl ?_
  refine S_roJ (d := k_d K - 1) (e_callS (As := [.long x298, .int 116, .int 0, .int 0]) (rest := []) ok_X10_on rfl (Nat.le_of_ble_eq_true rfl) (dc_X10_wordOf 122 rfl) ho q1684 q1685 rfl (Nat.le_of_ble_eq_true rfl)) (by omega) (fun _ e => ct_X10_on (by omega) e) (fun x305 e305 => ?_)
  exact S_lret (dc_X10_wordOf 123 rfl) hT (fun q => by cases q; exact hr)
abbrev cX10_isWord : ByteArray := prog_18_method_20_code
def yX10_isWord : MethodName := ⟨"PegBandsModel", "isWord", "(I)Z"⟩
def tb_X10_isWord : List (Nat × Instr × Nat) := [(0, .aload_n 0, 1), (1, .getfield 120, 3), (4, .iconst 2, 1), (5, .if_icmp .ne 19, 3), (8, .aload_n 0, 1), (9, .getfield 133, 3), (12, .iload_n 1, 1), (13, .invokestatic 155, 3), (16, .lcmp, 1), (17, .ifCond .ne 7, 3), (20, .iconst 1, 1), (21, .goto 4, 3), (24, .iconst 0, 1), (25, .ireturn, 1)]
theorem tk_X10_isWord : ∀ q ∈ tb_X10_isWord, decode cX10_isWord q.1 = .ok q.2 := by decide +kernel
theorem dc_X10_isWord (k : Nat) {pc n : Nat} {i : Instr} (h : tb_X10_isWord[k]? = some (pc, i, n)) : decode cX10_isWord pc = .ok (i, n) := tk_X10_isWord (pc, i, n) (List.mem_of_getElem? h)
abbrev mX10_isWord : e_M := (yX10_isWord, cX10_isWord, 2, some (.boolean), [])
theorem ok_X10_isWord : e_mok mX10_isWord 1 := ⟨q1677, q119, by decide +kernel, fun sig h => by cases h; rfl⟩
def f_X10_isWord (h : e_H) (a0 : Nat) (a1 : Int32) : Option Int32 :=
  Option.bind (e_fI h a0 8 7) (fun x1 =>
  if x1 = 2 then
    Option.bind (e_fJ h a0 8 13) (fun x9 =>
    Option.bind (f_X10_wordOf a1) (fun x13 =>
    if (lg_cmp x9 x13) = 0 then
      some 1
    else
      some 0))
  else
    some 0)
set_option maxHeartbeats 4000000 in
set_option maxRecDepth 100000 in
theorem ct_X10_isWord {l : Launch} {D : e_D} {B : Heap} {d : Nat} {h : e_H} {a0 : Nat} {a1 : Int32} {v : Int32} (hd : 3 ≤ d) (e : f_X10_isWord h a0 a1 = some v) : e_Run l D B d mX10_isWord [.ref a0, .int a1] h (.ok (some (.int v)), h) := by
  refine e_start [some (.ref a0), some (.int a1)] (by decide) rfl rfl rfl (Nat.le_of_ble_eq_true rfl) (fun K hl0 hD0 hB0 hM hd0 hr => ?_)
  subst hl0 hD0 hB0 hd0
  have ho : (k_M K).1.cls = "PegBandsModel" := by rw [hM]; rfl
  have hT : (k_M K).2.2.2.1 = some (.boolean) := by rw [hM]
  refine (show Sx K cX10_isWord 0 [some (.ref a0), some (.int a1)] [] h (f_X10_isWord h a0 a1) (fun w => w = v) from ?_) _ e rfl
  clear e
  unfold f_X10_isWord
  refine S_aload_n (dc_X10_isWord 0 rfl) rfl ?_
  refine S_getI (dc_X10_isWord 1 rfl) ho fl_X10_120_8_7 (fun _ _ => rfl) (fun x1 e1 => ?_)
  refine S_iconst_ 2 (dc_X10_isWord 2 rfl) rfl ?_
  refine S_icmp_ne 24 (dc_X10_isWord 3 rfl) rfl (fun c5 => ?_) (fun c5 => ?_)
  · refine S_iconst_ 0 (dc_X10_isWord 12 rfl) rfl ?_
    exact S_iret (dc_X10_isWord 13 rfl) hT rfl (fun q => by cases q; exact hr)
  · refine S_aload_n (dc_X10_isWord 4 rfl) rfl ?_
    refine S_getJ (dc_X10_isWord 5 rfl) ho fl_X10_133_8_13 (fun _ _ => rfl) (fun x9 e9 => ?_)
    refine S_iload_n (dc_X10_isWord 6 rfl) rfl ?_
    refine S_roJ (d := k_d K - 1) (e_callS (As := [.int a1]) (rest := [.long x9]) ok_X10_wordOf rfl (Nat.le_of_ble_eq_true rfl) (dc_X10_isWord 7 rfl) ho q1678 q1679 rfl (Nat.le_of_ble_eq_true rfl)) (by omega) (fun _ e => ct_X10_wordOf (by omega) e) (fun x13 e13 => ?_)
    refine S_lcmp (dc_X10_isWord 8 rfl) ?_
    refine S_if_ne 24 (dc_X10_isWord 9 rfl) rfl (fun c17 => ?_) (fun c17 => ?_)
    · refine S_iconst_ 0 (dc_X10_isWord 12 rfl) rfl ?_
      exact S_iret (dc_X10_isWord 13 rfl) hT rfl (fun q => by cases q; exact hr)
    · refine S_iconst_ 1 (dc_X10_isWord 10 rfl) rfl ?_
      refine S_goto 25 (dc_X10_isWord 11 rfl) rfl ?_
      exact S_iret (dc_X10_isWord 13 rfl) hT rfl (fun q => by cases q; exact hr)
abbrev cX10_bad : ByteArray := prog_18_method_23_code
def yX10_bad : MethodName := ⟨"PegBandsModel", "bad", "(I)Z"⟩
def tb_X10_bad : List (Nat × Instr × Nat) := [(0, .aload_n 0, 1), (1, .aload_n 0, 1), (2, .getfield 120, 3), (5, .iconst 1, 1), (6, .if_icmp .ne 7, 3), (9, .iconst 1, 1), (10, .goto 4, 3), (13, .iload_n 1, 1), (14, .putfield 159, 3), (17, .aload_n 0, 1), (18, .aload_n 0, 1), (19, .getfield 114, 3), (22, .putfield 162, 3), (25, .iconst 0, 1), (26, .ireturn, 1)]
theorem tk_X10_bad : ∀ q ∈ tb_X10_bad, decode cX10_bad q.1 = .ok q.2 := by decide +kernel
theorem dc_X10_bad (k : Nat) {pc n : Nat} {i : Instr} (h : tb_X10_bad[k]? = some (pc, i, n)) : decode cX10_bad pc = .ok (i, n) := tk_X10_bad (pc, i, n) (List.mem_of_getElem? h)
abbrev mX10_bad : e_M := (yX10_bad, cX10_bad, 2, some (.boolean), [])
theorem ok_X10_bad : e_mok mX10_bad 1 := ⟨q1690, q119, by decide +kernel, fun sig h => by cases h; rfl⟩
theorem fl_X10_162_8_11 : e_FL "PegBandsModel" 162 8 11 := ⟨_, rfl, by decide, Or.inl q1482⟩
def f_X10_bad (h : e_H) (a0 : Nat) (a1 : Int32) : Option (Int32 × e_H) :=
  Option.bind (e_fI h a0 8 7) (fun x2 =>
  Option.bind (
      if x2 = 1 then
        some 1
      else
        some a1
    : Option (Int32)) (fun s14_1 =>
  Option.bind (e_gI h a0 8 10 s14_1) (fun h14 =>
  Option.bind (e_fI h14 a0 8 6) (fun x19 =>
  Option.bind (e_gI h14 a0 8 11 x19) (fun h22 =>
  some (0, h22))))))
set_option maxHeartbeats 4000000 in
set_option maxRecDepth 100000 in
theorem ct_X10_bad {l : Launch} {D : e_D} {B : Heap} {d : Nat} {h : e_H} {a0 : Nat} {a1 : Int32} {v : Int32} {h1 : e_H} (hd : 1 ≤ d) (e : f_X10_bad h a0 a1 = some (v, h1)) : e_Run l D B d mX10_bad [.ref a0, .int a1] h (.ok (some (.int v)), h1) := by
  refine e_start [some (.ref a0), some (.int a1)] (by decide) rfl rfl rfl (Nat.le_of_ble_eq_true rfl) (fun K hl0 hD0 hB0 hM hd0 hr => ?_)
  subst hl0 hD0 hB0 hd0
  have ho : (k_M K).1.cls = "PegBandsModel" := by rw [hM]; rfl
  have hT : (k_M K).2.2.2.1 = some (.boolean) := by rw [hM]
  refine (show Sx K cX10_bad 0 [some (.ref a0), some (.int a1)] [] h (f_X10_bad h a0 a1) (fun w => w = (v, h1)) from ?_) _ e rfl
  clear e
  unfold f_X10_bad
  refine S_aload_n (dc_X10_bad 0 rfl) rfl ?_
  refine S_aload_n (dc_X10_bad 1 rfl) rfl ?_
  refine S_getI (dc_X10_bad 2 rfl) ho fl_X10_120_8_7 (fun _ _ => rfl) (fun x2 e2 => ?_)
  refine S_iconst_ 1 (dc_X10_bad 3 rfl) rfl ?_
  refine Sx.regK1 (pc2 := 14) (L2 := fun (s14_1 : Int32) => [some (.ref a0), none]) (st2 := fun (s14_1 : Int32) => [.int s14_1, .ref a0]) (h2 := fun (s14_1 : Int32) => h) ?_ (fun Q1 hK1 => ?_)
  · intro s14_1
    show Sx K cX10_bad 14 [some (.ref a0), none] [.int s14_1, .ref a0] h _ _
    refine S_putI (dc_X10_bad 8 rfl) ho fl_X10_159_8_10 (fun _ _ => rfl) (Or.inl rfl) rfl rfl (fun h14 e14 => ?_)
    refine S_aload_n (dc_X10_bad 9 rfl) rfl ?_
    refine S_aload_n (dc_X10_bad 10 rfl) rfl ?_
    refine S_getI (dc_X10_bad 11 rfl) ho fl_X10_114_8_6 (fun _ _ => rfl) (fun x19 e19 => ?_)
    refine S_putI (dc_X10_bad 12 rfl) ho fl_X10_162_8_11 (fun _ _ => rfl) (Or.inl rfl) rfl rfl (fun h22 e22 => ?_)
    refine S_iconst_ 0 (dc_X10_bad 13 rfl) rfl ?_
    exact S_iret (dc_X10_bad 14 rfl) hT rfl (e_rqI hr)
  · have hK1 : ∀ (s14_1 : Int32), Sx K cX10_bad 14 [some (.ref a0), none] [.int s14_1, .ref a0] h (some s14_1) Q1 := hK1
    refine S_icmp_ne 13 (dc_X10_bad 4 rfl) rfl (fun c6 => ?_) (fun c6 => ?_)
    · refine S_iload_n (dc_X10_bad 7 rfl) rfl ?_
      refine Sx.cut [true, false] ?_
      exact hK1 a1
    · refine S_iconst_ 1 (dc_X10_bad 5 rfl) rfl ?_
      refine S_goto 14 (dc_X10_bad 6 rfl) rfl ?_
      refine Sx.cut [true, false] ?_
      exact hK1 1
abbrev cX10_isIn : ByteArray := prog_18_method_8_code
def yX10_isIn : MethodName := ⟨"PegBandsModel", "isIn", "(III)Z"⟩
def tb_X10_isIn : List (Nat × Instr × Nat) := [(0, .iload_n 0, 1), (1, .iload_n 1, 1), (2, .if_icmp .lt 12, 3), (5, .iload_n 0, 1), (6, .iload_n 2, 1), (7, .if_icmp .gt 7, 3), (10, .iconst 1, 1), (11, .goto 4, 3), (14, .iconst 0, 1), (15, .ireturn, 1)]
theorem tk_X10_isIn : ∀ q ∈ tb_X10_isIn, decode cX10_isIn q.1 = .ok q.2 := by decide +kernel
theorem dc_X10_isIn (k : Nat) {pc n : Nat} {i : Instr} (h : tb_X10_isIn[k]? = some (pc, i, n)) : decode cX10_isIn pc = .ok (i, n) := tk_X10_isIn (pc, i, n) (List.mem_of_getElem? h)
abbrev mX10_isIn : e_M := (yX10_isIn, cX10_isIn, 3, some (.boolean), [])
theorem ok_X10_isIn : e_mok mX10_isIn 3 := ⟨q1701, q119, by decide +kernel, fun sig h => by cases h; rfl⟩
def f_X10_isIn (a0 : Int32) (a1 : Int32) (a2 : Int32) : Option Int32 :=
  if a0 < a1 then
    some 0
  else
    if a2 < a0 then
      some 0
    else
      some 1
set_option maxHeartbeats 4000000 in
set_option maxRecDepth 100000 in
theorem ct_X10_isIn {l : Launch} {D : e_D} {B : Heap} {d : Nat} {h : e_H} {a0 : Int32} {a1 : Int32} {a2 : Int32} {v : Int32} (hd : 1 ≤ d) (e : f_X10_isIn a0 a1 a2 = some v) : e_Run l D B d mX10_isIn [.int a0, .int a1, .int a2] h (.ok (some (.int v)), h) := by
  refine e_start [some (.int a0), some (.int a1), some (.int a2)] (by decide) rfl rfl rfl (Nat.le_of_ble_eq_true rfl) (fun K hl0 hD0 hB0 hM hd0 hr => ?_)
  subst hl0 hD0 hB0 hd0
  have ho : (k_M K).1.cls = "PegBandsModel" := by rw [hM]; rfl
  have hT : (k_M K).2.2.2.1 = some (.boolean) := by rw [hM]
  refine (show Sx K cX10_isIn 0 [some (.int a0), some (.int a1), some (.int a2)] [] h (f_X10_isIn a0 a1 a2) (fun w => w = v) from ?_) _ e rfl
  clear e
  unfold f_X10_isIn
  refine S_iload_n (dc_X10_isIn 0 rfl) rfl ?_
  refine S_iload_n (dc_X10_isIn 1 rfl) rfl ?_
  refine S_icmp_lt 14 (dc_X10_isIn 2 rfl) rfl (fun c2 => ?_) (fun c2 => ?_)
  · refine S_iconst_ 0 (dc_X10_isIn 8 rfl) rfl ?_
    exact S_iret (dc_X10_isIn 9 rfl) hT rfl (fun q => by cases q; exact hr)
  · refine S_iload_n (dc_X10_isIn 3 rfl) rfl ?_
    refine S_iload_n (dc_X10_isIn 4 rfl) rfl ?_
    refine S_icmp_gt 14 (dc_X10_isIn 5 rfl) rfl (fun c7 => ?_) (fun c7 => ?_)
    · refine S_iconst_ 0 (dc_X10_isIn 8 rfl) rfl ?_
      exact S_iret (dc_X10_isIn 9 rfl) hT rfl (fun q => by cases q; exact hr)
    · refine S_iconst_ 1 (dc_X10_isIn 6 rfl) rfl ?_
      refine S_goto 15 (dc_X10_isIn 7 rfl) rfl ?_
      exact S_iret (dc_X10_isIn 9 rfl) hT rfl (fun q => by cases q; exact hr)
abbrev cX10_isNumber : ByteArray := prog_18_method_24_code
def yX10_isNumber : MethodName := ⟨"PegBandsModel", "isNumber", "(II)Z"⟩
def tb_X10_isNumber : List (Nat × Instr × Nat) := [(0, .aload_n 0, 1), (1, .getfield 120, 3), (4, .iconst 3, 1), (5, .if_icmp .eq 9, 3), (8, .aload_n 0, 1), (9, .iconst 1, 1), (10, .invokevirtual 165, 3), (13, .ireturn, 1), (14, .aload_n 0, 1), (15, .getfield 137, 3), (18, .iload_n 1, 1), (19, .iload_n 2, 1), (20, .invokestatic 168, 3), (23, .ifCond .ne 9, 3), (26, .aload_n 0, 1), (27, .iconst 2, 1), (28, .invokevirtual 165, 3), (31, .ireturn, 1), (32, .aload_n 0, 1), (33, .aload_n 0, 1), (34, .getfield 137, 3), (37, .putfield 172, 3), (40, .iconst 1, 1), (41, .ireturn, 1)]
theorem tk_X10_isNumber : ∀ q ∈ tb_X10_isNumber, decode cX10_isNumber q.1 = .ok q.2 := by decide +kernel
theorem dc_X10_isNumber (k : Nat) {pc n : Nat} {i : Instr} (h : tb_X10_isNumber[k]? = some (pc, i, n)) : decode cX10_isNumber pc = .ok (i, n) := tk_X10_isNumber (pc, i, n) (List.mem_of_getElem? h)
abbrev mX10_isNumber : e_M := (yX10_isNumber, cX10_isNumber, 3, some (.boolean), [])
theorem ok_X10_isNumber : e_mok mX10_isNumber 2 := ⟨q1698, q119, by decide +kernel, fun sig h => by cases h; rfl⟩
theorem fl_X10_172_8_14 : e_FL "PegBandsModel" 172 8 14 := ⟨_, rfl, by decide, Or.inl q1485⟩
def f_X10_isNumber (h : e_H) (a0 : Nat) (a1 : Int32) (a2 : Int32) : Option (Int32 × e_H) :=
  Option.bind (e_fI h a0 8 7) (fun x1 =>
  if x1 = 3 then
    Option.bind (e_fI h a0 8 8) (fun x15 =>
    Option.bind (f_X10_isIn x15 a1 a2) (fun x20 =>
    if x20 = 0 then
      e_b2 (f_X10_bad h a0 2) (fun x28 h28 =>
      if x28 = 0 ∨ x28 = 1 then some (x28, h28) else none)
    else
      Option.bind (e_fI h a0 8 8) (fun x34 =>
      Option.bind (e_gI h a0 8 14 x34) (fun h37 =>
      some (1, h37)))))
  else
    e_b2 (f_X10_bad h a0 1) (fun x10 h10 =>
    if x10 = 0 ∨ x10 = 1 then some (x10, h10) else none))
set_option maxHeartbeats 4000000 in
set_option maxRecDepth 100000 in
theorem ct_X10_isNumber {l : Launch} {D : e_D} {B : Heap} {d : Nat} {h : e_H} {a0 : Nat} {a1 : Int32} {a2 : Int32} {v : Int32} {h1 : e_H} (hd : 2 ≤ d) (e : f_X10_isNumber h a0 a1 a2 = some (v, h1)) : e_Run l D B d mX10_isNumber [.ref a0, .int a1, .int a2] h (.ok (some (.int v)), h1) := by
  refine e_start [some (.ref a0), some (.int a1), some (.int a2)] (by decide) rfl rfl rfl (Nat.le_of_ble_eq_true rfl) (fun K hl0 hD0 hB0 hM hd0 hr => ?_)
  subst hl0 hD0 hB0 hd0
  have ho : (k_M K).1.cls = "PegBandsModel" := by rw [hM]; rfl
  have hT : (k_M K).2.2.2.1 = some (.boolean) := by rw [hM]
  refine (show Sx K cX10_isNumber 0 [some (.ref a0), some (.int a1), some (.int a2)] [] h (f_X10_isNumber h a0 a1 a2) (fun w => w = (v, h1)) from ?_) _ e rfl
  clear e
  unfold f_X10_isNumber
  refine S_aload_n (dc_X10_isNumber 0 rfl) rfl ?_
  refine S_getI (dc_X10_isNumber 1 rfl) ho fl_X10_120_8_7 (fun _ _ => rfl) (fun x1 e1 => ?_)
  refine S_iconst_ 3 (dc_X10_isNumber 2 rfl) rfl ?_
  refine S_icmp_eq 14 (dc_X10_isNumber 3 rfl) rfl (fun c5 => ?_) (fun c5 => ?_)
  · refine S_aload_n (dc_X10_isNumber 8 rfl) rfl ?_
    refine S_getI (dc_X10_isNumber 9 rfl) ho fl_X10_137_8_8 (fun _ _ => rfl) (fun x15 e15 => ?_)
    refine S_iload_n (dc_X10_isNumber 10 rfl) rfl ?_
    refine S_iload_n (dc_X10_isNumber 11 rfl) rfl ?_
    refine S_roI (d := k_d K - 1) (e_callS (As := [.int x15, .int a1, .int a2]) (rest := []) ok_X10_isIn rfl (Nat.le_of_ble_eq_true rfl) (dc_X10_isNumber 12 rfl) ho q1699 q1700 rfl (Nat.le_of_ble_eq_true rfl)) (by omega) (fun _ e => ct_X10_isIn (by omega) e) (fun x20 e20 => ?_)
    refine S_if_ne 32 (dc_X10_isNumber 13 rfl) rfl (fun c23 => ?_) (fun c23 => ?_)
    · refine S_aload_n (dc_X10_isNumber 18 rfl) rfl ?_
      refine S_aload_n (dc_X10_isNumber 19 rfl) rfl ?_
      refine S_getI (dc_X10_isNumber 20 rfl) ho fl_X10_137_8_8 (fun _ _ => rfl) (fun x34 e34 => ?_)
      refine S_putI (dc_X10_isNumber 21 rfl) ho fl_X10_172_8_14 (fun _ _ => rfl) (Or.inl rfl) rfl rfl (fun h37 e37 => ?_)
      refine S_iconst_ 1 (dc_X10_isNumber 22 rfl) rfl ?_
      exact S_iret (dc_X10_isNumber 23 rfl) hT rfl (e_rqI hr)
    · refine S_aload_n (dc_X10_isNumber 14 rfl) rfl ?_
      refine S_iconst_ 2 (dc_X10_isNumber 15 rfl) rfl ?_
      refine S_rwI (d := k_d K - 1) (e_callV (b := a0) (As := [.int 2]) (rest := []) ok_X10_bad rfl (Nat.le_of_ble_eq_true rfl) (dc_X10_isNumber 16 rfl) ho q1687 q1689 (show e_cl[8]? = some (RX10, TX10, 51) from rfl) (e_sel.of qs42) (e_fI_of e1).1 rfl (Nat.le_of_ble_eq_true rfl)) (by omega) (fun _ _ e => ct_X10_bad (by omega) e) (fun x28 h28 e28 => ?_)
      refine Sx.cond (fun c31 => ?_)
      exact S_iret (dc_X10_isNumber 17 rfl) hT (e_narZ c31).1 (e_rqI hr)
  · refine S_aload_n (dc_X10_isNumber 4 rfl) rfl ?_
    refine S_iconst_ 1 (dc_X10_isNumber 5 rfl) rfl ?_
    refine S_rwI (d := k_d K - 1) (e_callV (b := a0) (As := [.int 1]) (rest := []) ok_X10_bad rfl (Nat.le_of_ble_eq_true rfl) (dc_X10_isNumber 6 rfl) ho q1687 q1689 (show e_cl[8]? = some (RX10, TX10, 51) from rfl) (e_sel.of qs42) (e_fI_of e1).1 rfl (Nat.le_of_ble_eq_true rfl)) (by omega) (fun _ _ e => ct_X10_bad (by omega) e) (fun x10 h10 e10 => ?_)
    refine Sx.cond (fun c13 => ?_)
    exact S_iret (dc_X10_isNumber 7 rfl) hT (e_narZ c13).1 (e_rqI hr)
abbrev cX10_readNumber : ByteArray := prog_18_method_25_code
def yX10_readNumber : MethodName := ⟨"PegBandsModel", "readNumber", "(II)Z"⟩
def tb_X10_readNumber : List (Nat × Instr × Nat) := [(0, .aload_n 0, 1), (1, .iload_n 1, 1), (2, .iload_n 2, 1), (3, .invokevirtual 175, 3), (6, .ifCond .ne 5, 3), (9, .iconst 0, 1), (10, .ireturn, 1), (11, .aload_n 0, 1), (12, .invokevirtual 179, 3), (15, .iconst 1, 1), (16, .ireturn, 1)]
theorem tk_X10_readNumber : ∀ q ∈ tb_X10_readNumber, decode cX10_readNumber q.1 = .ok q.2 := by decide +kernel
theorem dc_X10_readNumber (k : Nat) {pc n : Nat} {i : Instr} (h : tb_X10_readNumber[k]? = some (pc, i, n)) : decode cX10_readNumber pc = .ok (i, n) := tk_X10_readNumber (pc, i, n) (List.mem_of_getElem? h)
abbrev mX10_readNumber : e_M := (yX10_readNumber, cX10_readNumber, 3, some (.boolean), [])
theorem ok_X10_readNumber : e_mok mX10_readNumber 2 := ⟨q1694, q119, by decide +kernel, fun sig h => by cases h; rfl⟩
def f_X10_readNumber (F : Nat) (h : e_H) (a0 : Nat) (a1 : Int32) (a2 : Int32) : Option (Int32 × e_H) :=
  Option.bind (e_is h a0 8) (fun _ =>
  e_b2 (f_X10_isNumber h a0 a1 a2) (fun x3 h3 =>
  if x3 = 0 then
    some (0, h3)
  else
    Option.bind (e_is h3 a0 8) (fun _ =>
    Option.bind (f_X10_go F h3 a0) (fun h12 =>
    some (1, h12)))))
set_option maxHeartbeats 4000000 in
set_option maxRecDepth 100000 in
theorem ct_X10_readNumber {l : Launch} {D : e_D} {B : Heap} {F : Nat} {d : Nat} {h : e_H} {a0 : Nat} {a1 : Int32} {a2 : Int32} {v : Int32} {h1 : e_H} (hd : 3 ≤ d) (e : f_X10_readNumber F h a0 a1 a2 = some (v, h1)) : e_Run l D B d mX10_readNumber [.ref a0, .int a1, .int a2] h (.ok (some (.int v)), h1) := by
  refine e_start [some (.ref a0), some (.int a1), some (.int a2)] (by decide) rfl rfl rfl (Nat.le_of_ble_eq_true rfl) (fun K hl0 hD0 hB0 hM hd0 hr => ?_)
  subst hl0 hD0 hB0 hd0
  have ho : (k_M K).1.cls = "PegBandsModel" := by rw [hM]; rfl
  have hT : (k_M K).2.2.2.1 = some (.boolean) := by rw [hM]
  refine (show Sx K cX10_readNumber 0 [some (.ref a0), some (.int a1), some (.int a2)] [] h (f_X10_readNumber F h a0 a1 a2) (fun w => w = (v, h1)) from ?_) _ e rfl
  clear e
  unfold f_X10_readNumber
  refine S_aload_n (dc_X10_readNumber 0 rfl) rfl ?_
  refine S_iload_n (dc_X10_readNumber 1 rfl) rfl ?_
  refine S_iload_n (dc_X10_readNumber 2 rfl) rfl ?_
  refine Sx.ask (fun _ i3 => ?_)
  refine S_rwI (d := k_d K - 1) (e_callV (b := a0) (As := [.int a1, .int a2]) (rest := []) ok_X10_isNumber rfl (Nat.le_of_ble_eq_true rfl) (dc_X10_readNumber 3 rfl) ho q1695 q1697 (show e_cl[8]? = some (RX10, TX10, 51) from rfl) (e_sel.of qs44) (e_is_of i3) rfl (Nat.le_of_ble_eq_true rfl)) (by omega) (fun _ _ e => ct_X10_isNumber (by omega) e) (fun x3 h3 e3 => ?_)
  refine S_if_ne 11 (dc_X10_readNumber 4 rfl) rfl (fun c6 => ?_) (fun c6 => ?_)
  · refine S_aload_n (dc_X10_readNumber 7 rfl) rfl ?_
    refine Sx.ask (fun _ i12 => ?_)
    refine S_rwV (d := k_d K - 1) (e_callV (b := a0) (As := []) (rest := []) ok_X10_go rfl (Nat.le_of_ble_eq_true rfl) (dc_X10_readNumber 8 rfl) ho q1654 q1656 (show e_cl[8]? = some (RX10, TX10, 51) from rfl) (e_sel.of qs38) (e_is_of i12) rfl (Nat.le_of_ble_eq_true rfl)) (by omega) (fun _ e => ct_X10_go (by omega) e) (fun h12 e12 => ?_)
    refine S_iconst_ 1 (dc_X10_readNumber 9 rfl) rfl ?_
    exact S_iret (dc_X10_readNumber 10 rfl) hT rfl (e_rqI hr)
  · refine S_iconst_ 0 (dc_X10_readNumber 5 rfl) rfl ?_
    exact S_iret (dc_X10_readNumber 6 rfl) hT rfl (e_rqI hr)
abbrev cX10_isSign : ByteArray := prog_18_method_21_code
def yX10_isSign : MethodName := ⟨"PegBandsModel", "isSign", "(I)Z"⟩
def tb_X10_isSign : List (Nat × Instr × Nat) := [(0, .aload_n 0, 1), (1, .getfield 120, 3), (4, .iconst 4, 1), (5, .if_icmp .ne 15, 3), (8, .aload_n 0, 1), (9, .getfield 130, 3), (12, .iload_n 1, 1), (13, .if_icmp .ne 7, 3), (16, .iconst 1, 1), (17, .goto 4, 3), (20, .iconst 0, 1), (21, .ireturn, 1)]
theorem tk_X10_isSign : ∀ q ∈ tb_X10_isSign, decode cX10_isSign q.1 = .ok q.2 := by decide +kernel
theorem dc_X10_isSign (k : Nat) {pc n : Nat} {i : Instr} (h : tb_X10_isSign[k]? = some (pc, i, n)) : decode cX10_isSign pc = .ok (i, n) := tk_X10_isSign (pc, i, n) (List.mem_of_getElem? h)
abbrev mX10_isSign : e_M := (yX10_isSign, cX10_isSign, 2, some (.boolean), [])
theorem ok_X10_isSign : e_mok mX10_isSign 1 := ⟨q1709, q119, by decide +kernel, fun sig h => by cases h; rfl⟩
def f_X10_isSign (h : e_H) (a0 : Nat) (a1 : Int32) : Option Int32 :=
  Option.bind (e_fI h a0 8 7) (fun x1 =>
  if x1 = 4 then
    Option.bind (e_fI h a0 8 9) (fun x9 =>
    if x9 = a1 then
      some 1
    else
      some 0)
  else
    some 0)
set_option maxHeartbeats 4000000 in
set_option maxRecDepth 100000 in
theorem ct_X10_isSign {l : Launch} {D : e_D} {B : Heap} {d : Nat} {h : e_H} {a0 : Nat} {a1 : Int32} {v : Int32} (hd : 1 ≤ d) (e : f_X10_isSign h a0 a1 = some v) : e_Run l D B d mX10_isSign [.ref a0, .int a1] h (.ok (some (.int v)), h) := by
  refine e_start [some (.ref a0), some (.int a1)] (by decide) rfl rfl rfl (Nat.le_of_ble_eq_true rfl) (fun K hl0 hD0 hB0 hM hd0 hr => ?_)
  subst hl0 hD0 hB0 hd0
  have ho : (k_M K).1.cls = "PegBandsModel" := by rw [hM]; rfl
  have hT : (k_M K).2.2.2.1 = some (.boolean) := by rw [hM]
  refine (show Sx K cX10_isSign 0 [some (.ref a0), some (.int a1)] [] h (f_X10_isSign h a0 a1) (fun w => w = v) from ?_) _ e rfl
  clear e
  unfold f_X10_isSign
  refine S_aload_n (dc_X10_isSign 0 rfl) rfl ?_
  refine S_getI (dc_X10_isSign 1 rfl) ho fl_X10_120_8_7 (fun _ _ => rfl) (fun x1 e1 => ?_)
  refine S_iconst_ 4 (dc_X10_isSign 2 rfl) rfl ?_
  refine S_icmp_ne 20 (dc_X10_isSign 3 rfl) rfl (fun c5 => ?_) (fun c5 => ?_)
  · refine S_iconst_ 0 (dc_X10_isSign 10 rfl) rfl ?_
    exact S_iret (dc_X10_isSign 11 rfl) hT rfl (fun q => by cases q; exact hr)
  · refine S_aload_n (dc_X10_isSign 4 rfl) rfl ?_
    refine S_getI (dc_X10_isSign 5 rfl) ho fl_X10_130_8_9 (fun _ _ => rfl) (fun x9 e9 => ?_)
    refine S_iload_n (dc_X10_isSign 6 rfl) rfl ?_
    refine S_icmp_ne 20 (dc_X10_isSign 7 rfl) rfl (fun c13 => ?_) (fun c13 => ?_)
    · refine S_iconst_ 0 (dc_X10_isSign 10 rfl) rfl ?_
      exact S_iret (dc_X10_isSign 11 rfl) hT rfl (fun q => by cases q; exact hr)
    · refine S_iconst_ 1 (dc_X10_isSign 8 rfl) rfl ?_
      refine S_goto 21 (dc_X10_isSign 9 rfl) rfl ?_
      exact S_iret (dc_X10_isSign 11 rfl) hT rfl (fun q => by cases q; exact hr)
abbrev cX10_readEnd : ByteArray := prog_18_method_26_code
def yX10_readEnd : MethodName := ⟨"PegBandsModel", "readEnd", "()Z"⟩
def tb_X10_readEnd : List (Nat × Instr × Nat) := [(0, .aload_n 0, 1), (1, .bipush 59, 2), (3, .invokevirtual 182, 3), (6, .ifCond .ne 9, 3), (9, .aload_n 0, 1), (10, .iconst 1, 1), (11, .invokevirtual 165, 3), (14, .ireturn, 1), (15, .aload_n 0, 1), (16, .invokevirtual 179, 3), (19, .iconst 1, 1), (20, .ireturn, 1)]
theorem tk_X10_readEnd : ∀ q ∈ tb_X10_readEnd, decode cX10_readEnd q.1 = .ok q.2 := by decide +kernel
theorem dc_X10_readEnd (k : Nat) {pc n : Nat} {i : Instr} (h : tb_X10_readEnd[k]? = some (pc, i, n)) : decode cX10_readEnd pc = .ok (i, n) := tk_X10_readEnd (pc, i, n) (List.mem_of_getElem? h)
abbrev mX10_readEnd : e_M := (yX10_readEnd, cX10_readEnd, 1, some (.boolean), [])
theorem ok_X10_readEnd : e_mok mX10_readEnd 0 := ⟨q1705, q119, by decide +kernel, fun sig h => by cases h; rfl⟩
def f_X10_readEnd (F : Nat) (h : e_H) (a0 : Nat) : Option (Int32 × e_H) :=
  Option.bind (e_is h a0 8) (fun _ =>
  Option.bind (f_X10_isSign h a0 59) (fun x3 =>
  if x3 = 0 then
    e_b2 (f_X10_bad h a0 1) (fun x11 h11 =>
    if x11 = 0 ∨ x11 = 1 then some (x11, h11) else none)
  else
    Option.bind (f_X10_go F h a0) (fun h16 =>
    some (1, h16))))
set_option maxHeartbeats 4000000 in
set_option maxRecDepth 100000 in
theorem ct_X10_readEnd {l : Launch} {D : e_D} {B : Heap} {F : Nat} {d : Nat} {h : e_H} {a0 : Nat} {v : Int32} {h1 : e_H} (hd : 3 ≤ d) (e : f_X10_readEnd F h a0 = some (v, h1)) : e_Run l D B d mX10_readEnd [.ref a0] h (.ok (some (.int v)), h1) := by
  refine e_start [some (.ref a0)] (by decide) rfl rfl rfl (Nat.le_of_ble_eq_true rfl) (fun K hl0 hD0 hB0 hM hd0 hr => ?_)
  subst hl0 hD0 hB0 hd0
  have ho : (k_M K).1.cls = "PegBandsModel" := by rw [hM]; rfl
  have hT : (k_M K).2.2.2.1 = some (.boolean) := by rw [hM]
  refine (show Sx K cX10_readEnd 0 [some (.ref a0)] [] h (f_X10_readEnd F h a0) (fun w => w = (v, h1)) from ?_) _ e rfl
  clear e
  unfold f_X10_readEnd
  refine S_aload_n (dc_X10_readEnd 0 rfl) rfl ?_
  refine S_bipush_ 59 (dc_X10_readEnd 1 rfl) rfl ?_
  refine Sx.ask (fun _ i3 => ?_)
  refine S_roI (d := k_d K - 1) (e_callV (b := a0) (As := [.int 59]) (rest := []) ok_X10_isSign rfl (Nat.le_of_ble_eq_true rfl) (dc_X10_readEnd 2 rfl) ho q1706 q1708 (show e_cl[8]? = some (RX10, TX10, 51) from rfl) (e_sel.of qs46) (e_is_of i3) rfl (Nat.le_of_ble_eq_true rfl)) (by omega) (fun _ e => ct_X10_isSign (by omega) e) (fun x3 e3 => ?_)
  refine S_if_ne 15 (dc_X10_readEnd 3 rfl) rfl (fun c6 => ?_) (fun c6 => ?_)
  · refine S_aload_n (dc_X10_readEnd 8 rfl) rfl ?_
    refine S_rwV (d := k_d K - 1) (e_callV (b := a0) (As := []) (rest := []) ok_X10_go rfl (Nat.le_of_ble_eq_true rfl) (dc_X10_readEnd 9 rfl) ho q1654 q1656 (show e_cl[8]? = some (RX10, TX10, 51) from rfl) (e_sel.of qs38) (e_is_of i3) rfl (Nat.le_of_ble_eq_true rfl)) (by omega) (fun _ e => ct_X10_go (by omega) e) (fun h16 e16 => ?_)
    refine S_iconst_ 1 (dc_X10_readEnd 10 rfl) rfl ?_
    exact S_iret (dc_X10_readEnd 11 rfl) hT rfl (e_rqI hr)
  · refine S_aload_n (dc_X10_readEnd 4 rfl) rfl ?_
    refine S_iconst_ 1 (dc_X10_readEnd 5 rfl) rfl ?_
    refine S_rwI (d := k_d K - 1) (e_callV (b := a0) (As := [.int 1]) (rest := []) ok_X10_bad rfl (Nat.le_of_ble_eq_true rfl) (dc_X10_readEnd 6 rfl) ho q1687 q1689 (show e_cl[8]? = some (RX10, TX10, 51) from rfl) (e_sel.of qs42) (e_is_of i3) rfl (Nat.le_of_ble_eq_true rfl)) (by omega) (fun _ _ e => ct_X10_bad (by omega) e) (fun x11 h11 e11 => ?_)
    refine Sx.cond (fun c14 => ?_)
    exact S_iret (dc_X10_readEnd 7 rfl) hT (e_narZ c14).1 (e_rqI hr)
abbrev cX10_readHead : ByteArray := prog_18_method_45_code
def yX10_readHead : MethodName := ⟨"PegBandsModel", "readHead", "()Z"⟩
def tb_X10_readHead : List (Nat × Instr × Nat) := [(0, .aload_n 0, 1), (1, .iconst 0, 1), (2, .invokevirtual 252, 3), (5, .ifCond .ne 9, 3), (8, .aload_n 0, 1), (9, .iconst 1, 1), (10, .invokevirtual 165, 3), (13, .ireturn, 1), (14, .aload_n 0, 1), (15, .invokevirtual 179, 3), (18, .aload_n 0, 1), (19, .iconst 2, 1), (20, .bipush 10, 2), (22, .invokevirtual 235, 3), (25, .ifCond .ne 5, 3), (28, .iconst 0, 1), (29, .ireturn, 1), (30, .aload_n 0, 1), (31, .getfield 16, 3), (34, .iconst 0, 1), (35, .aload_n 0, 1), (36, .getfield 172, 3), (39, .iastore, 1), (40, .aload_n 0, 1), (41, .iconst 2, 1), (42, .bipush 10, 2), (44, .invokevirtual 235, 3), (47, .ifCond .ne 5, 3), (50, .iconst 0, 1), (51, .ireturn, 1), (52, .aload_n 0, 1), (53, .getfield 16, 3), (56, .iconst 1, 1), (57, .aload_n 0, 1), (58, .getfield 172, 3), (61, .iastore, 1), (62, .aload_n 0, 1), (63, .invokevirtual 255, 3), (66, .ireturn, 1)]
theorem tk_X10_readHead : ∀ q ∈ tb_X10_readHead, decode cX10_readHead q.1 = .ok q.2 := by decide +kernel
theorem dc_X10_readHead (k : Nat) {pc n : Nat} {i : Instr} (h : tb_X10_readHead[k]? = some (pc, i, n)) : decode cX10_readHead pc = .ok (i, n) := tk_X10_readHead (pc, i, n) (List.mem_of_getElem? h)
abbrev mX10_readHead : e_M := (yX10_readHead, cX10_readHead, 1, some (.boolean), [])
theorem ok_X10_readHead : e_mok mX10_readHead 0 := ⟨q1673, q119, by decide +kernel, fun sig h => by cases h; rfl⟩
def f_X10_readHead (F : Nat) (h : e_H) (a0 : Nat) : Option (Int32 × e_H) :=
  Option.bind (e_is h a0 8) (fun _ =>
  Option.bind (f_X10_isWord h a0 0) (fun x2 =>
  if x2 = 0 then
    e_b2 (f_X10_bad h a0 1) (fun x10 h10 =>
    if x10 = 0 ∨ x10 = 1 then some (x10, h10) else none)
  else
    Option.bind (f_X10_go F h a0) (fun h15 =>
    Option.bind (e_is h15 a0 8) (fun _ =>
    e_b2 (f_X10_readNumber F h15 a0 2 10) (fun x22 h22 =>
    if x22 = 0 then
      some (0, h22)
    else
      Option.bind (e_fA h22 a0 8 16) (fun x31 =>
      Option.bind (e_fI h22 a0 8 14) (fun x36 =>
      Option.bind (e_wI h22 x31 0 0 x36) (fun h39 =>
      Option.bind (e_is h39 a0 8) (fun _ =>
      e_b2 (f_X10_readNumber F h39 a0 2 10) (fun x44 h44 =>
      if x44 = 0 then
        some (0, h44)
      else
        Option.bind (e_fA h44 a0 8 16) (fun x53 =>
        Option.bind (e_fI h44 a0 8 14) (fun x58 =>
        Option.bind (e_wI h44 x53 0 1 x58) (fun h61 =>
        Option.bind (e_is h61 a0 8) (fun _ =>
        e_b2 (f_X10_readEnd F h61 a0) (fun x63 h63 =>
        if x63 = 0 ∨ x63 = 1 then some (x63, h63) else none)))))))))))))))
set_option maxHeartbeats 4000000 in
set_option maxRecDepth 100000 in
theorem ct_X10_readHead {l : Launch} {D : e_D} {B : Heap} {F : Nat} {d : Nat} {h : e_H} {a0 : Nat} {v : Int32} {h1 : e_H} (hd : 4 ≤ d) (e : f_X10_readHead F h a0 = some (v, h1)) : e_Run l D B d mX10_readHead [.ref a0] h (.ok (some (.int v)), h1) := by
  refine e_start [some (.ref a0)] (by decide) rfl rfl rfl (Nat.le_of_ble_eq_true rfl) (fun K hl0 hD0 hB0 hM hd0 hr => ?_)
  subst hl0 hD0 hB0 hd0
  have ho : (k_M K).1.cls = "PegBandsModel" := by rw [hM]; rfl
  have hT : (k_M K).2.2.2.1 = some (.boolean) := by rw [hM]
  refine (show Sx K cX10_readHead 0 [some (.ref a0)] [] h (f_X10_readHead F h a0) (fun w => w = (v, h1)) from ?_) _ e rfl
  clear e
  unfold f_X10_readHead
  refine S_aload_n (dc_X10_readHead 0 rfl) rfl ?_
  refine S_iconst_ 0 (dc_X10_readHead 1 rfl) rfl ?_
  refine Sx.ask (fun _ i2 => ?_)
  refine S_roI (d := k_d K - 1) (e_callV (b := a0) (As := [.int 0]) (rest := []) ok_X10_isWord rfl (Nat.le_of_ble_eq_true rfl) (dc_X10_readHead 2 rfl) ho q1674 q1676 (show e_cl[8]? = some (RX10, TX10, 51) from rfl) (e_sel.of qs41) (e_is_of i2) rfl (Nat.le_of_ble_eq_true rfl)) (by omega) (fun _ e => ct_X10_isWord (by omega) e) (fun x2 e2 => ?_)
  refine S_if_ne 14 (dc_X10_readHead 3 rfl) rfl (fun c5 => ?_) (fun c5 => ?_)
  · refine S_aload_n (dc_X10_readHead 8 rfl) rfl ?_
    refine S_rwV (d := k_d K - 1) (e_callV (b := a0) (As := []) (rest := []) ok_X10_go rfl (Nat.le_of_ble_eq_true rfl) (dc_X10_readHead 9 rfl) ho q1654 q1656 (show e_cl[8]? = some (RX10, TX10, 51) from rfl) (e_sel.of qs38) (e_is_of i2) rfl (Nat.le_of_ble_eq_true rfl)) (by omega) (fun _ e => ct_X10_go (by omega) e) (fun h15 e15 => ?_)
    refine S_aload_n (dc_X10_readHead 10 rfl) rfl ?_
    refine S_iconst_ 2 (dc_X10_readHead 11 rfl) rfl ?_
    refine S_bipush_ 10 (dc_X10_readHead 12 rfl) rfl ?_
    refine Sx.ask (fun _ i22 => ?_)
    refine S_rwI (d := k_d K - 1) (e_callV (b := a0) (As := [.int 2, .int 10]) (rest := []) ok_X10_readNumber rfl (Nat.le_of_ble_eq_true rfl) (dc_X10_readHead 13 rfl) ho q1691 q1693 (show e_cl[8]? = some (RX10, TX10, 51) from rfl) (e_sel.of qs43) (e_is_of i22) rfl (Nat.le_of_ble_eq_true rfl)) (by omega) (fun _ _ e => ct_X10_readNumber (by omega) e) (fun x22 h22 e22 => ?_)
    refine S_if_ne 30 (dc_X10_readHead 14 rfl) rfl (fun c25 => ?_) (fun c25 => ?_)
    · refine S_aload_n (dc_X10_readHead 17 rfl) rfl ?_
      refine S_getA (dc_X10_readHead 18 rfl) ho fl_X10_16_8_16 (fun _ _ => rfl) (fun x31 e31 => ?_)
      refine S_iconst_ 0 (dc_X10_readHead 19 rfl) rfl ?_
      refine S_aload_n (dc_X10_readHead 20 rfl) rfl ?_
      refine S_getI (dc_X10_readHead 21 rfl) ho fl_X10_172_8_14 (fun _ _ => rfl) (fun x36 e36 => ?_)
      refine S_iast (dc_X10_readHead 22 rfl) (fun h39 e39 => ?_)
      refine S_aload_n (dc_X10_readHead 23 rfl) rfl ?_
      refine S_iconst_ 2 (dc_X10_readHead 24 rfl) rfl ?_
      refine S_bipush_ 10 (dc_X10_readHead 25 rfl) rfl ?_
      refine Sx.ask (fun _ i44 => ?_)
      refine S_rwI (d := k_d K - 1) (e_callV (b := a0) (As := [.int 2, .int 10]) (rest := []) ok_X10_readNumber rfl (Nat.le_of_ble_eq_true rfl) (dc_X10_readHead 26 rfl) ho q1691 q1693 (show e_cl[8]? = some (RX10, TX10, 51) from rfl) (e_sel.of qs43) (e_is_of i44) rfl (Nat.le_of_ble_eq_true rfl)) (by omega) (fun _ _ e => ct_X10_readNumber (by omega) e) (fun x44 h44 e44 => ?_)
      refine S_if_ne 52 (dc_X10_readHead 27 rfl) rfl (fun c47 => ?_) (fun c47 => ?_)
      · refine S_aload_n (dc_X10_readHead 30 rfl) rfl ?_
        refine S_getA (dc_X10_readHead 31 rfl) ho fl_X10_16_8_16 (fun _ _ => rfl) (fun x53 e53 => ?_)
        refine S_iconst_ 1 (dc_X10_readHead 32 rfl) rfl ?_
        refine S_aload_n (dc_X10_readHead 33 rfl) rfl ?_
        refine S_getI (dc_X10_readHead 34 rfl) ho fl_X10_172_8_14 (fun _ _ => rfl) (fun x58 e58 => ?_)
        refine S_iast (dc_X10_readHead 35 rfl) (fun h61 e61 => ?_)
        refine S_aload_n (dc_X10_readHead 36 rfl) rfl ?_
        refine Sx.ask (fun _ i63 => ?_)
        refine S_rwI (d := k_d K - 1) (e_callV (b := a0) (As := []) (rest := []) ok_X10_readEnd rfl (Nat.le_of_ble_eq_true rfl) (dc_X10_readHead 37 rfl) ho q1702 q1704 (show e_cl[8]? = some (RX10, TX10, 51) from rfl) (e_sel.of qs45) (e_is_of i63) rfl (Nat.le_of_ble_eq_true rfl)) (by omega) (fun _ _ e => ct_X10_readEnd (by omega) e) (fun x63 h63 e63 => ?_)
        refine Sx.cond (fun c66 => ?_)
        exact S_iret (dc_X10_readHead 38 rfl) hT (e_narZ c66).1 (e_rqI hr)
      · refine S_iconst_ 0 (dc_X10_readHead 28 rfl) rfl ?_
        exact S_iret (dc_X10_readHead 29 rfl) hT rfl (e_rqI hr)
    · refine S_iconst_ 0 (dc_X10_readHead 15 rfl) rfl ?_
      exact S_iret (dc_X10_readHead 16 rfl) hT rfl (e_rqI hr)
  · refine S_aload_n (dc_X10_readHead 4 rfl) rfl ?_
    refine S_iconst_ 1 (dc_X10_readHead 5 rfl) rfl ?_
    refine S_rwI (d := k_d K - 1) (e_callV (b := a0) (As := [.int 1]) (rest := []) ok_X10_bad rfl (Nat.le_of_ble_eq_true rfl) (dc_X10_readHead 6 rfl) ho q1687 q1689 (show e_cl[8]? = some (RX10, TX10, 51) from rfl) (e_sel.of qs42) (e_is_of i2) rfl (Nat.le_of_ble_eq_true rfl)) (by omega) (fun _ _ e => ct_X10_bad (by omega) e) (fun x10 h10 e10 => ?_)
    refine Sx.cond (fun c13 => ?_)
    exact S_iret (dc_X10_readHead 7 rfl) hT (e_narZ c13).1 (e_rqI hr)
abbrev cX10_readBell : ByteArray := prog_18_method_44_code
def yX10_readBell : MethodName := ⟨"PegBandsModel", "readBell", "()Z"⟩
def tb_X10_readBell : List (Nat × Instr × Nat) := [(0, .aload_n 0, 1), (1, .getfield 16, 3), (4, .iconst 2, 1), (5, .iaload, 1), (6, .ifCond .le 9, 3), (9, .aload_n 0, 1), (10, .iconst 3, 1), (11, .invokevirtual 165, 3), (14, .ireturn, 1), (15, .aload_n 0, 1), (16, .getfield 16, 3), (19, .iconst 2, 1), (20, .iconst 1, 1), (21, .iastore, 1), (22, .aload_n 0, 1), (23, .invokevirtual 179, 3), (26, .iconst 1, 1), (27, .ireturn, 1)]
theorem tk_X10_readBell : ∀ q ∈ tb_X10_readBell, decode cX10_readBell q.1 = .ok q.2 := by decide +kernel
theorem dc_X10_readBell (k : Nat) {pc n : Nat} {i : Instr} (h : tb_X10_readBell[k]? = some (pc, i, n)) : decode cX10_readBell pc = .ok (i, n) := tk_X10_readBell (pc, i, n) (List.mem_of_getElem? h)
abbrev mX10_readBell : e_M := (yX10_readBell, cX10_readBell, 1, some (.boolean), [])
theorem ok_X10_readBell : e_mok mX10_readBell 0 := ⟨q1713, q119, by decide +kernel, fun sig h => by cases h; rfl⟩
def f_X10_readBell (F : Nat) (h : e_H) (a0 : Nat) : Option (Int32 × e_H) :=
  Option.bind (e_fA h a0 8 16) (fun x1 =>
  Option.bind (e_aI h x1 0 2) (fun x5 =>
  if x5 ≤ 0 then
    Option.bind (e_fA h a0 8 16) (fun x16 =>
    Option.bind (e_wI h x16 0 2 1) (fun h21 =>
    Option.bind (e_is h21 a0 8) (fun _ =>
    Option.bind (f_X10_go F h21 a0) (fun h23 =>
    some (1, h23)))))
  else
    e_b2 (f_X10_bad h a0 3) (fun x11 h11 =>
    if x11 = 0 ∨ x11 = 1 then some (x11, h11) else none)))
set_option maxHeartbeats 4000000 in
set_option maxRecDepth 100000 in
theorem ct_X10_readBell {l : Launch} {D : e_D} {B : Heap} {F : Nat} {d : Nat} {h : e_H} {a0 : Nat} {v : Int32} {h1 : e_H} (hd : 3 ≤ d) (e : f_X10_readBell F h a0 = some (v, h1)) : e_Run l D B d mX10_readBell [.ref a0] h (.ok (some (.int v)), h1) := by
  refine e_start [some (.ref a0)] (by decide) rfl rfl rfl (Nat.le_of_ble_eq_true rfl) (fun K hl0 hD0 hB0 hM hd0 hr => ?_)
  subst hl0 hD0 hB0 hd0
  have ho : (k_M K).1.cls = "PegBandsModel" := by rw [hM]; rfl
  have hT : (k_M K).2.2.2.1 = some (.boolean) := by rw [hM]
  refine (show Sx K cX10_readBell 0 [some (.ref a0)] [] h (f_X10_readBell F h a0) (fun w => w = (v, h1)) from ?_) _ e rfl
  clear e
  unfold f_X10_readBell
  refine S_aload_n (dc_X10_readBell 0 rfl) rfl ?_
  refine S_getA (dc_X10_readBell 1 rfl) ho fl_X10_16_8_16 (fun _ _ => rfl) (fun x1 e1 => ?_)
  refine S_iconst_ 2 (dc_X10_readBell 2 rfl) rfl ?_
  refine S_iald (dc_X10_readBell 3 rfl) (fun x5 e5 => ?_)
  refine S_if_le 15 (dc_X10_readBell 4 rfl) rfl (fun c6 => ?_) (fun c6 => ?_)
  · refine S_aload_n (dc_X10_readBell 9 rfl) rfl ?_
    refine S_getA (dc_X10_readBell 10 rfl) ho fl_X10_16_8_16 (fun _ _ => rfl) (fun x16 e16 => ?_)
    refine S_iconst_ 2 (dc_X10_readBell 11 rfl) rfl ?_
    refine S_iconst_ 1 (dc_X10_readBell 12 rfl) rfl ?_
    refine S_iast (dc_X10_readBell 13 rfl) (fun h21 e21 => ?_)
    refine S_aload_n (dc_X10_readBell 14 rfl) rfl ?_
    refine Sx.ask (fun _ i23 => ?_)
    refine S_rwV (d := k_d K - 1) (e_callV (b := a0) (As := []) (rest := []) ok_X10_go rfl (Nat.le_of_ble_eq_true rfl) (dc_X10_readBell 15 rfl) ho q1654 q1656 (show e_cl[8]? = some (RX10, TX10, 51) from rfl) (e_sel.of qs38) (e_is_of i23) rfl (Nat.le_of_ble_eq_true rfl)) (by omega) (fun _ e => ct_X10_go (by omega) e) (fun h23 e23 => ?_)
    refine S_iconst_ 1 (dc_X10_readBell 16 rfl) rfl ?_
    exact S_iret (dc_X10_readBell 17 rfl) hT rfl (e_rqI hr)
  · refine S_aload_n (dc_X10_readBell 5 rfl) rfl ?_
    refine S_iconst_ 3 (dc_X10_readBell 6 rfl) rfl ?_
    refine S_rwI (d := k_d K - 1) (e_callV (b := a0) (As := [.int 3]) (rest := []) ok_X10_bad rfl (Nat.le_of_ble_eq_true rfl) (dc_X10_readBell 7 rfl) ho q1687 q1689 (show e_cl[8]? = some (RX10, TX10, 51) from rfl) (e_sel.of qs42) (e_fA_of e1).1 rfl (Nat.le_of_ble_eq_true rfl)) (by omega) (fun _ _ e => ct_X10_bad (by omega) e) (fun x11 h11 e11 => ?_)
    refine Sx.cond (fun c14 => ?_)
    exact S_iret (dc_X10_readBell 8 rfl) hT (e_narZ c14).1 (e_rqI hr)
abbrev cX10_readOut : ByteArray := prog_18_method_42_code
def yX10_readOut : MethodName := ⟨"PegBandsModel", "readOut", "()Z"⟩
def tb_X10_readOut : List (Nat × Instr × Nat) := [(0, .aload_n 0, 1), (1, .getfield 16, 3), (4, .iconst 4, 1), (5, .iaload, 1), (6, .ifCond .le 9, 3), (9, .aload_n 0, 1), (10, .iconst 3, 1), (11, .invokevirtual 165, 3), (14, .ireturn, 1), (15, .aload_n 0, 1), (16, .getfield 16, 3), (19, .iconst 3, 1), (20, .iaload, 1), (21, .bipush 12, 2), (23, .if_icmp .ne 9, 3), (26, .aload_n 0, 1), (27, .iconst 4, 1), (28, .invokevirtual 165, 3), (31, .ireturn, 1), (32, .aload_n 0, 1), (33, .invokevirtual 179, 3), (36, .aload_n 0, 1), (37, .iconst 0, 1), (38, .aload_n 0, 1), (39, .getfield 16, 3), (42, .iconst 0, 1), (43, .iaload, 1), (44, .iconst 1, 1), (45, .isub, 1), (46, .invokevirtual 235, 3), (49, .ifCond .ne 5, 3), (52, .iconst 0, 1), (53, .ireturn, 1), (54, .aload_n 0, 1), (55, .getfield 172, 3), (58, .istore_n 1, 1), (59, .aload_n 0, 1), (60, .iconst 0, 1), (61, .aload_n 0, 1), (62, .getfield 16, 3), (65, .iconst 1, 1), (66, .iaload, 1), (67, .iconst 1, 1), (68, .isub, 1), (69, .invokevirtual 175, 3), (72, .ifCond .ne 5, 3), (75, .iconst 0, 1), (76, .ireturn, 1), (77, .aload_n 0, 1), (78, .getfield 16, 3), (81, .iconst 5, 1), (82, .bipush 10, 2), (84, .aload_n 0, 1), (85, .getfield 172, 3), (88, .imul, 1), (89, .iadd, 1), (90, .iload_n 1, 1), (91, .iadd, 1), (92, .iaload, 1), (93, .ifCond .le 9, 3), (96, .aload_n 0, 1), (97, .iconst 3, 1), (98, .invokevirtual 165, 3), (101, .ireturn, 1), (102, .aload_n 0, 1), (103, .getfield 16, 3), (106, .iconst 5, 1), (107, .bipush 10, 2), (109, .aload_n 0, 1), (110, .getfield 172, 3), (113, .imul, 1), (114, .iadd, 1), (115, .iload_n 1, 1), (116, .iadd, 1), (117, .iconst 1, 1), (118, .iastore, 1), (119, .aload_n 0, 1), (120, .getfield 16, 3), (123, .iconst 3, 1), (124, .dup2, 1), (125, .iaload, 1), (126, .iconst 1, 1), (127, .iadd, 1), (128, .iastore, 1), (129, .aload_n 0, 1), (130, .invokevirtual 179, 3), (133, .iconst 1, 1), (134, .ireturn, 1)]
theorem tk_X10_readOut : ∀ q ∈ tb_X10_readOut, decode cX10_readOut q.1 = .ok q.2 := by decide +kernel
theorem dc_X10_readOut (k : Nat) {pc n : Nat} {i : Instr} (h : tb_X10_readOut[k]? = some (pc, i, n)) : decode cX10_readOut pc = .ok (i, n) := tk_X10_readOut (pc, i, n) (List.mem_of_getElem? h)
abbrev mX10_readOut : e_M := (yX10_readOut, cX10_readOut, 2, some (.boolean), [])
theorem ok_X10_readOut : e_mok mX10_readOut 0 := ⟨q1717, q119, by decide +kernel, fun sig h => by cases h; rfl⟩
def f_X10_readOut (F : Nat) (h : e_H) (a0 : Nat) : Option (Int32 × e_H) :=
  Option.bind (e_fA h a0 8 16) (fun x1 =>
  Option.bind (e_aI h x1 0 4) (fun x5 =>
  if x5 ≤ 0 then
    Option.bind (e_fA h a0 8 16) (fun x16 =>
    Option.bind (e_aI h x16 0 3) (fun x20 =>
    if x20 = 12 then
      e_b2 (f_X10_bad h a0 4) (fun x28 h28 =>
      if x28 = 0 ∨ x28 = 1 then some (x28, h28) else none)
    else
      Option.bind (f_X10_go F h a0) (fun h33 =>
      Option.bind (e_fA h33 a0 8 16) (fun x39 =>
      Option.bind (e_aI h33 x39 0 0) (fun x43 =>
      e_b2 (f_X10_readNumber F h33 a0 0 (x43 - 1)) (fun x46 h46 =>
      if x46 = 0 then
        some (0, h46)
      else
        Option.bind (e_fI h46 a0 8 14) (fun x55 =>
        Option.bind (e_fA h46 a0 8 16) (fun x62 =>
        Option.bind (e_aI h46 x62 0 1) (fun x66 =>
        e_b2 (f_X10_isNumber h46 a0 0 (x66 - 1)) (fun x69 h69 =>
        if x69 = 0 then
          some (0, h69)
        else
          Option.bind (e_fA h69 a0 8 16) (fun x78 =>
          Option.bind (e_fI h69 a0 8 14) (fun x85 =>
          Option.bind (e_aI h69 x78 0 ((5 + (10 * x85)) + x55)) (fun x92 =>
          if x92 ≤ 0 then
            Option.bind (e_fA h69 a0 8 16) (fun x103 =>
            Option.bind (e_fI h69 a0 8 14) (fun x110 =>
            Option.bind (e_wI h69 x103 0 ((5 + (10 * x110)) + x55) 1) (fun h118 =>
            Option.bind (e_fA h118 a0 8 16) (fun x120 =>
            Option.bind (e_aI h118 x120 0 3) (fun x125 =>
            Option.bind (e_wI h118 x120 0 3 (x125 + 1)) (fun h128 =>
            Option.bind (e_is h128 a0 8) (fun _ =>
            Option.bind (f_X10_go F h128 a0) (fun h130 =>
            some (1, h130)))))))))
          else
            e_b2 (f_X10_bad h69 a0 3) (fun x98 h98 =>
            if x98 = 0 ∨ x98 = 1 then some (x98, h98) else none))))))))))))))
  else
    e_b2 (f_X10_bad h a0 3) (fun x11 h11 =>
    if x11 = 0 ∨ x11 = 1 then some (x11, h11) else none)))
set_option maxHeartbeats 4000000 in
set_option maxRecDepth 100000 in
theorem ct_X10_readOut {l : Launch} {D : e_D} {B : Heap} {F : Nat} {d : Nat} {h : e_H} {a0 : Nat} {v : Int32} {h1 : e_H} (hd : 4 ≤ d) (e : f_X10_readOut F h a0 = some (v, h1)) : e_Run l D B d mX10_readOut [.ref a0] h (.ok (some (.int v)), h1) := by
  refine e_start [some (.ref a0), none] (by decide) rfl rfl rfl (Nat.le_of_ble_eq_true rfl) (fun K hl0 hD0 hB0 hM hd0 hr => ?_)
  subst hl0 hD0 hB0 hd0
  have ho : (k_M K).1.cls = "PegBandsModel" := by rw [hM]; rfl
  have hT : (k_M K).2.2.2.1 = some (.boolean) := by rw [hM]
  refine (show Sx K cX10_readOut 0 [some (.ref a0), none] [] h (f_X10_readOut F h a0) (fun w => w = (v, h1)) from ?_) _ e rfl
  clear e
  unfold f_X10_readOut
  refine S_aload_n (dc_X10_readOut 0 rfl) rfl ?_
  refine S_getA (dc_X10_readOut 1 rfl) ho fl_X10_16_8_16 (fun _ _ => rfl) (fun x1 e1 => ?_)
  refine S_iconst_ 4 (dc_X10_readOut 2 rfl) rfl ?_
  refine S_iald (dc_X10_readOut 3 rfl) (fun x5 e5 => ?_)
  refine S_if_le 15 (dc_X10_readOut 4 rfl) rfl (fun c6 => ?_) (fun c6 => ?_)
  · refine S_aload_n (dc_X10_readOut 9 rfl) rfl ?_
    refine S_getA (dc_X10_readOut 10 rfl) ho fl_X10_16_8_16 (fun _ _ => rfl) (fun x16 e16 => ?_)
    refine S_iconst_ 3 (dc_X10_readOut 11 rfl) rfl ?_
    refine S_iald (dc_X10_readOut 12 rfl) (fun x20 e20 => ?_)
    refine S_bipush_ 12 (dc_X10_readOut 13 rfl) rfl ?_
    refine S_icmp_ne 32 (dc_X10_readOut 14 rfl) rfl (fun c23 => ?_) (fun c23 => ?_)
    · refine S_aload_n (dc_X10_readOut 19 rfl) rfl ?_
      refine S_rwV (d := k_d K - 1) (e_callV (b := a0) (As := []) (rest := []) ok_X10_go rfl (Nat.le_of_ble_eq_true rfl) (dc_X10_readOut 20 rfl) ho q1654 q1656 (show e_cl[8]? = some (RX10, TX10, 51) from rfl) (e_sel.of qs38) (e_fA_of e1).1 rfl (Nat.le_of_ble_eq_true rfl)) (by omega) (fun _ e => ct_X10_go (by omega) e) (fun h33 e33 => ?_)
      refine S_aload_n (dc_X10_readOut 21 rfl) rfl ?_
      refine S_iconst_ 0 (dc_X10_readOut 22 rfl) rfl ?_
      refine S_aload_n (dc_X10_readOut 23 rfl) rfl ?_
      refine S_getA (dc_X10_readOut 24 rfl) ho fl_X10_16_8_16 (fun _ _ => rfl) (fun x39 e39 => ?_)
      refine S_iconst_ 0 (dc_X10_readOut 25 rfl) rfl ?_
      refine S_iald (dc_X10_readOut 26 rfl) (fun x43 e43 => ?_)
      refine S_iconst_ 1 (dc_X10_readOut 27 rfl) rfl ?_
      refine S_isub (dc_X10_readOut 28 rfl) ?_
      refine S_rwI (d := k_d K - 1) (e_callV (b := a0) (As := [.int 0, .int (x43 - 1)]) (rest := []) ok_X10_readNumber rfl (Nat.le_of_ble_eq_true rfl) (dc_X10_readOut 29 rfl) ho q1691 q1693 (show e_cl[8]? = some (RX10, TX10, 51) from rfl) (e_sel.of qs43) (e_fA_of e39).1 rfl (Nat.le_of_ble_eq_true rfl)) (by omega) (fun _ _ e => ct_X10_readNumber (by omega) e) (fun x46 h46 e46 => ?_)
      refine S_if_ne 54 (dc_X10_readOut 30 rfl) rfl (fun c49 => ?_) (fun c49 => ?_)
      · refine S_aload_n (dc_X10_readOut 33 rfl) rfl ?_
        refine S_getI (dc_X10_readOut 34 rfl) ho fl_X10_172_8_14 (fun _ _ => rfl) (fun x55 e55 => ?_)
        refine S_istore_n (L' := [some (.ref a0), some (.int x55)]) (dc_X10_readOut 35 rfl) rfl ?_
        refine S_aload_n (dc_X10_readOut 36 rfl) rfl ?_
        refine S_iconst_ 0 (dc_X10_readOut 37 rfl) rfl ?_
        refine S_aload_n (dc_X10_readOut 38 rfl) rfl ?_
        refine S_getA (dc_X10_readOut 39 rfl) ho fl_X10_16_8_16 (fun _ _ => rfl) (fun x62 e62 => ?_)
        refine S_iconst_ 1 (dc_X10_readOut 40 rfl) rfl ?_
        refine S_iald (dc_X10_readOut 41 rfl) (fun x66 e66 => ?_)
        refine S_iconst_ 1 (dc_X10_readOut 42 rfl) rfl ?_
        refine S_isub (dc_X10_readOut 43 rfl) ?_
        refine S_rwI (d := k_d K - 1) (e_callV (b := a0) (As := [.int 0, .int (x66 - 1)]) (rest := []) ok_X10_isNumber rfl (Nat.le_of_ble_eq_true rfl) (dc_X10_readOut 44 rfl) ho q1695 q1697 (show e_cl[8]? = some (RX10, TX10, 51) from rfl) (e_sel.of qs44) (e_fI_of e55).1 rfl (Nat.le_of_ble_eq_true rfl)) (by omega) (fun _ _ e => ct_X10_isNumber (by omega) e) (fun x69 h69 e69 => ?_)
        refine S_if_ne 77 (dc_X10_readOut 45 rfl) rfl (fun c72 => ?_) (fun c72 => ?_)
        · refine S_aload_n (dc_X10_readOut 48 rfl) rfl ?_
          refine S_getA (dc_X10_readOut 49 rfl) ho fl_X10_16_8_16 (fun _ _ => rfl) (fun x78 e78 => ?_)
          refine S_iconst_ 5 (dc_X10_readOut 50 rfl) rfl ?_
          refine S_bipush_ 10 (dc_X10_readOut 51 rfl) rfl ?_
          refine S_aload_n (dc_X10_readOut 52 rfl) rfl ?_
          refine S_getI (dc_X10_readOut 53 rfl) ho fl_X10_172_8_14 (fun _ _ => rfl) (fun x85 e85 => ?_)
          refine S_imul (dc_X10_readOut 54 rfl) ?_
          refine S_iadd (dc_X10_readOut 55 rfl) ?_
          refine S_iload_n (dc_X10_readOut 56 rfl) rfl ?_
          refine S_iadd (dc_X10_readOut 57 rfl) ?_
          refine S_iald (dc_X10_readOut 58 rfl) (fun x92 e92 => ?_)
          refine S_if_le 102 (dc_X10_readOut 59 rfl) rfl (fun c93 => ?_) (fun c93 => ?_)
          · refine S_aload_n (dc_X10_readOut 64 rfl) rfl ?_
            refine S_getA (dc_X10_readOut 65 rfl) ho fl_X10_16_8_16 (fun _ _ => rfl) (fun x103 e103 => ?_)
            refine S_iconst_ 5 (dc_X10_readOut 66 rfl) rfl ?_
            refine S_bipush_ 10 (dc_X10_readOut 67 rfl) rfl ?_
            refine S_aload_n (dc_X10_readOut 68 rfl) rfl ?_
            refine S_getI (dc_X10_readOut 69 rfl) ho fl_X10_172_8_14 (fun _ _ => rfl) (fun x110 e110 => ?_)
            refine S_imul (dc_X10_readOut 70 rfl) ?_
            refine S_iadd (dc_X10_readOut 71 rfl) ?_
            refine S_iload_n (dc_X10_readOut 72 rfl) rfl ?_
            refine S_iadd (dc_X10_readOut 73 rfl) ?_
            refine S_iconst_ 1 (dc_X10_readOut 74 rfl) rfl ?_
            refine S_iast (dc_X10_readOut 75 rfl) (fun h118 e118 => ?_)
            refine S_aload_n (dc_X10_readOut 76 rfl) rfl ?_
            refine S_getA (dc_X10_readOut 77 rfl) ho fl_X10_16_8_16 (fun _ _ => rfl) (fun x120 e120 => ?_)
            refine S_iconst_ 3 (dc_X10_readOut 78 rfl) rfl ?_
            refine S_dup2 (dc_X10_readOut 79 rfl) rfl rfl ?_
            refine S_iald (dc_X10_readOut 80 rfl) (fun x125 e125 => ?_)
            refine S_iconst_ 1 (dc_X10_readOut 81 rfl) rfl ?_
            refine S_iadd (dc_X10_readOut 82 rfl) ?_
            refine S_iast (dc_X10_readOut 83 rfl) (fun h128 e128 => ?_)
            refine S_aload_n (dc_X10_readOut 84 rfl) rfl ?_
            refine Sx.ask (fun _ i130 => ?_)
            refine S_rwV (d := k_d K - 1) (e_callV (b := a0) (As := []) (rest := []) ok_X10_go rfl (Nat.le_of_ble_eq_true rfl) (dc_X10_readOut 85 rfl) ho q1654 q1656 (show e_cl[8]? = some (RX10, TX10, 51) from rfl) (e_sel.of qs38) (e_is_of i130) rfl (Nat.le_of_ble_eq_true rfl)) (by omega) (fun _ e => ct_X10_go (by omega) e) (fun h130 e130 => ?_)
            refine S_iconst_ 1 (dc_X10_readOut 86 rfl) rfl ?_
            exact S_iret (dc_X10_readOut 87 rfl) hT rfl (e_rqI hr)
          · refine S_aload_n (dc_X10_readOut 60 rfl) rfl ?_
            refine S_iconst_ 3 (dc_X10_readOut 61 rfl) rfl ?_
            refine S_rwI (d := k_d K - 1) (e_callV (b := a0) (As := [.int 3]) (rest := []) ok_X10_bad rfl (Nat.le_of_ble_eq_true rfl) (dc_X10_readOut 62 rfl) ho q1687 q1689 (show e_cl[8]? = some (RX10, TX10, 51) from rfl) (e_sel.of qs42) (e_fA_of e78).1 rfl (Nat.le_of_ble_eq_true rfl)) (by omega) (fun _ _ e => ct_X10_bad (by omega) e) (fun x98 h98 e98 => ?_)
            refine Sx.cond (fun c101 => ?_)
            exact S_iret (dc_X10_readOut 63 rfl) hT (e_narZ c101).1 (e_rqI hr)
        · refine S_iconst_ 0 (dc_X10_readOut 46 rfl) rfl ?_
          exact S_iret (dc_X10_readOut 47 rfl) hT rfl (e_rqI hr)
      · refine S_iconst_ 0 (dc_X10_readOut 31 rfl) rfl ?_
        exact S_iret (dc_X10_readOut 32 rfl) hT rfl (e_rqI hr)
    · refine S_aload_n (dc_X10_readOut 15 rfl) rfl ?_
      refine S_iconst_ 4 (dc_X10_readOut 16 rfl) rfl ?_
      refine S_rwI (d := k_d K - 1) (e_callV (b := a0) (As := [.int 4]) (rest := []) ok_X10_bad rfl (Nat.le_of_ble_eq_true rfl) (dc_X10_readOut 17 rfl) ho q1687 q1689 (show e_cl[8]? = some (RX10, TX10, 51) from rfl) (e_sel.of qs42) (e_fA_of e1).1 rfl (Nat.le_of_ble_eq_true rfl)) (by omega) (fun _ _ e => ct_X10_bad (by omega) e) (fun x28 h28 e28 => ?_)
      refine Sx.cond (fun c31 => ?_)
      exact S_iret (dc_X10_readOut 18 rfl) hT (e_narZ c31).1 (e_rqI hr)
  · refine S_aload_n (dc_X10_readOut 5 rfl) rfl ?_
    refine S_iconst_ 3 (dc_X10_readOut 6 rfl) rfl ?_
    refine S_rwI (d := k_d K - 1) (e_callV (b := a0) (As := [.int 3]) (rest := []) ok_X10_bad rfl (Nat.le_of_ble_eq_true rfl) (dc_X10_readOut 7 rfl) ho q1687 q1689 (show e_cl[8]? = some (RX10, TX10, 51) from rfl) (e_sel.of qs42) (e_fA_of e1).1 rfl (Nat.le_of_ble_eq_true rfl)) (by omega) (fun _ _ e => ct_X10_bad (by omega) e) (fun x11 h11 e11 => ?_)
    refine Sx.cond (fun c14 => ?_)
    exact S_iret (dc_X10_readOut 8 rfl) hT (e_narZ c14).1 (e_rqI hr)
abbrev cX10_isName : ByteArray := prog_18_method_22_code
def yX10_isName : MethodName := ⟨"PegBandsModel", "isName", "()Z"⟩
def tb_X10_isName : List (Nat × Instr × Nat) := [(0, .aload_n 0, 1), (1, .getfield 120, 3), (4, .iconst 2, 1), (5, .if_icmp .eq 5, 3), (8, .iconst 0, 1), (9, .ireturn, 1), (10, .iconst 0, 1), (11, .istore_n 1, 1), (12, .iload_n 1, 1), (13, .bipush 16, 2), (15, .if_icmp .gt 23, 3), (18, .aload_n 0, 1), (19, .getfield 133, 3), (22, .iload_n 1, 1), (23, .invokestatic 155, 3), (26, .lcmp, 1), (27, .ifCond .ne 5, 3), (30, .iconst 0, 1), (31, .ireturn, 1), (32, .iinc 1 1, 3), (35, .goto (-23), 3), (38, .iconst 1, 1), (39, .ireturn, 1)]
theorem tk_X10_isName : ∀ q ∈ tb_X10_isName, decode cX10_isName q.1 = .ok q.2 := by decide +kernel
theorem dc_X10_isName (k : Nat) {pc n : Nat} {i : Instr} (h : tb_X10_isName[k]? = some (pc, i, n)) : decode cX10_isName pc = .ok (i, n) := tk_X10_isName (pc, i, n) (List.mem_of_getElem? h)
abbrev mX10_isName : e_M := (yX10_isName, cX10_isName, 2, some (.boolean), [])
theorem ok_X10_isName : e_mok mX10_isName 0 := ⟨q1725, q119, by decide +kernel, fun sig h => by cases h; rfl⟩
def lp_X10_isName_12 (F : Nat) (h : e_H) (a0 : Nat) : Nat → Int32 → Option (Except Int32 Unit)
  | 0, _ => none
  | n + 1, x1_12 =>
    if 16 < x1_12 then
      some (.ok ())
    else
      Option.bind (e_fJ h a0 8 13) (fun x19 =>
      Option.bind (f_X10_wordOf x1_12) (fun x23 =>
      if (lg_cmp x19 x23) = 0 then
        some (.error 0)
      else
        Option.bind (some (x1_12 + 1)) (fun x32 =>
        lp_X10_isName_12 F h a0 n x32)))
def f_X10_isName (F : Nat) (h : e_H) (a0 : Nat) : Option Int32 :=
  Option.bind (e_fI h a0 8 7) (fun x1 =>
  if x1 = 2 then
    e_bE (
        lp_X10_isName_12 F h a0 F 0
      : Option (Except Int32 Unit)) (fun _ =>
    some 1)
  else
    some 0)
set_option maxHeartbeats 4000000 in
set_option maxRecDepth 100000 in
theorem ct_X10_isName {l : Launch} {D : e_D} {B : Heap} {F : Nat} {d : Nat} {h : e_H} {a0 : Nat} {v : Int32} (hd : 3 ≤ d) (e : f_X10_isName F h a0 = some v) : e_Run l D B d mX10_isName [.ref a0] h (.ok (some (.int v)), h) := by
  refine e_start [some (.ref a0), none] (by decide) rfl rfl rfl (Nat.le_of_ble_eq_true rfl) (fun K hl0 hD0 hB0 hM hd0 hr => ?_)
  subst hl0 hD0 hB0 hd0
  have ho : (k_M K).1.cls = "PegBandsModel" := by rw [hM]; rfl
  have hT : (k_M K).2.2.2.1 = some (.boolean) := by rw [hM]
  refine (show Sx K cX10_isName 0 [some (.ref a0), none] [] h (f_X10_isName F h a0) (fun w => w = v) from ?_) _ e rfl
  clear e
  unfold f_X10_isName
  refine S_aload_n (dc_X10_isName 0 rfl) rfl ?_
  refine S_getI (dc_X10_isName 1 rfl) ho fl_X10_120_8_7 (fun _ _ => rfl) (fun x1 e1 => ?_)
  refine S_iconst_ 2 (dc_X10_isName 2 rfl) rfl ?_
  refine S_icmp_eq 10 (dc_X10_isName 3 rfl) rfl (fun c5 => ?_) (fun c5 => ?_)
  · refine S_iconst_ 0 (dc_X10_isName 6 rfl) rfl ?_
    refine S_istore_n (L' := [some (.ref a0), some (.int 0)]) (dc_X10_isName 7 rfl) rfl ?_
    refine Sx.regKE0 (pc2 := 38) (L2 := [none, none]) (st2 := []) (h2 := h) ?_ (fun Q1 hK1 hE1 => ?_)
    · skip
      refine S_iconst_ 1 (dc_X10_isName 21 rfl) rfl ?_
      exact S_iret (dc_X10_isName 22 rfl) hT rfl (fun q => by cases q; exact hr)
    · have hK1 : Sx K cX10_isName 38 [none, none] [] h (some (.ok ())) Q1 := hK1
      have ih1 : ∀ (n : Nat) (x1_12 : Int32), Sx K cX10_isName 12 [some (.ref a0), some (.int x1_12)] [] h (lp_X10_isName_12 F h a0 n x1_12) Q1 := by
        intro n
        induction n with
        | zero => intro x1_12; exact Sx.none
        | succ n ih1 =>
          intro x1_12
          rw [lp_X10_isName_12.eq_2]
          refine S_iload_n (dc_X10_isName 8 rfl) rfl ?_
          refine S_bipush_ 16 (dc_X10_isName 9 rfl) rfl ?_
          refine S_icmp_gt 38 (dc_X10_isName 10 rfl) rfl (fun c15 => ?_) (fun c15 => ?_)
          · refine Sx.cut [false, false] ?_
            exact hK1
          · refine S_aload_n (dc_X10_isName 11 rfl) rfl ?_
            refine S_getJ (dc_X10_isName 12 rfl) ho fl_X10_133_8_13 (fun _ _ => rfl) (fun x19 e19 => ?_)
            refine S_iload_n (dc_X10_isName 13 rfl) rfl ?_
            refine S_roJ (d := k_d K - 1) (e_callS (As := [.int x1_12]) (rest := [.long x19]) ok_X10_wordOf rfl (Nat.le_of_ble_eq_true rfl) (dc_X10_isName 14 rfl) ho q1678 q1679 rfl (Nat.le_of_ble_eq_true rfl)) (by omega) (fun _ e => ct_X10_wordOf (by omega) e) (fun x23 e23 => ?_)
            refine S_lcmp (dc_X10_isName 15 rfl) ?_
            refine S_if_ne 32 (dc_X10_isName 16 rfl) rfl (fun c27 => ?_) (fun c27 => ?_)
            · refine S_iincN 1 (L' := fun x32 => [some (.ref a0), some (.int x32)]) (dc_X10_isName 19 rfl) rfl rfl (fun _ => rfl) (fun x32 n32 => ?_)
              refine S_goto 12 (dc_X10_isName 20 rfl) rfl ?_
              exact ih1 x32
            · refine S_iconst_ 0 (dc_X10_isName 17 rfl) rfl ?_
              refine Sx.err hE1 ?_
              exact S_iret (dc_X10_isName 18 rfl) hT rfl (fun q => by cases q; exact hr)
      exact ih1 F 0
  · refine S_iconst_ 0 (dc_X10_isName 4 rfl) rfl ?_
    exact S_iret (dc_X10_isName 5 rfl) hT rfl (fun q => by cases q; exact hr)
abbrev cX10_findIn : ByteArray := prog_18_method_41_code
def yX10_findIn : MethodName := ⟨"PegBandsModel", "findIn", "([JIJ)I"⟩
def tb_X10_findIn : List (Nat × Instr × Nat) := [(0, .iconst 0, 1), (1, .istore 4, 2), (3, .iload 4, 2), (5, .iload_n 1, 1), (6, .if_icmp .ge 21, 3), (9, .aload_n 0, 1), (10, .iload 4, 2), (12, .laload, 1), (13, .lload_n 2, 1), (14, .lcmp, 1), (15, .ifCond .ne 6, 3), (18, .iload 4, 2), (20, .ireturn, 1), (21, .iinc 4 1, 3), (24, .goto (-21), 3), (27, .iconst (-1), 1), (28, .ireturn, 1)]
theorem tk_X10_findIn : ∀ q ∈ tb_X10_findIn, decode cX10_findIn q.1 = .ok q.2 := by decide +kernel
theorem dc_X10_findIn (k : Nat) {pc n : Nat} {i : Instr} (h : tb_X10_findIn[k]? = some (pc, i, n)) : decode cX10_findIn pc = .ok (i, n) := tk_X10_findIn (pc, i, n) (List.mem_of_getElem? h)
abbrev mX10_findIn : e_M := (yX10_findIn, cX10_findIn, 5, some (.int), [])
theorem ok_X10_findIn : e_mok mX10_findIn 3 := ⟨q1728, q119, by decide +kernel, fun sig h => by cases h; rfl⟩
def lp_X10_findIn_3 (F : Nat) (h : e_H) (a0 : Nat) (a1 : Int32) (a2 : Int64) : Nat → Int32 → Option (Except Int32 Unit)
  | 0, _ => none
  | n + 1, x4_3 =>
    if a1 ≤ x4_3 then
      some (.ok ())
    else
      Option.bind (e_aJ h a0 3 x4_3) (fun x12 =>
      if (lg_cmp x12 a2) = 0 then
        some (.error x4_3)
      else
        Option.bind (some (x4_3 + 1)) (fun x21 =>
        lp_X10_findIn_3 F h a0 a1 a2 n x21))
def f_X10_findIn (F : Nat) (h : e_H) (a0 : Nat) (a1 : Int32) (a2 : Int64) : Option Int32 :=
  e_bE (
      lp_X10_findIn_3 F h a0 a1 a2 F 0
    : Option (Except Int32 Unit)) (fun _ =>
  some (-1))
set_option maxHeartbeats 4000000 in
set_option maxRecDepth 100000 in
theorem ct_X10_findIn {l : Launch} {D : e_D} {B : Heap} {F : Nat} {d : Nat} {h : e_H} {a0 : Nat} {a1 : Int32} {a2 : Int64} {v : Int32} (hd : 1 ≤ d) (e : f_X10_findIn F h a0 a1 a2 = some v) : e_Run l D B d mX10_findIn [.ref a0, .int a1, .long a2] h (.ok (some (.int v)), h) := by
  refine e_start [some (.ref a0), some (.int a1), some (.long a2), none, none] (by decide) rfl rfl rfl (Nat.le_of_ble_eq_true rfl) (fun K hl0 hD0 hB0 hM hd0 hr => ?_)
  subst hl0 hD0 hB0 hd0
  have ho : (k_M K).1.cls = "PegBandsModel" := by rw [hM]; rfl
  have hT : (k_M K).2.2.2.1 = some (.int) := by rw [hM]
  refine (show Sx K cX10_findIn 0 [some (.ref a0), some (.int a1), some (.long a2), none, none] [] h (f_X10_findIn F h a0 a1 a2) (fun w => w = v) from ?_) _ e rfl
  clear e
  unfold f_X10_findIn
  refine S_iconst_ 0 (dc_X10_findIn 0 rfl) rfl ?_
  refine S_istore (L' := [some (.ref a0), some (.int a1), some (.long a2), none, some (.int 0)]) (dc_X10_findIn 1 rfl) rfl ?_
  refine Sx.regKE0 (pc2 := 27) (L2 := [none, none, none, none, none]) (st2 := []) (h2 := h) ?_ (fun Q1 hK1 hE1 => ?_)
  · skip
    refine S_iconst_ (-1) (dc_X10_findIn 15 rfl) rfl ?_
    exact S_iret (dc_X10_findIn 16 rfl) hT rfl (fun q => by cases q; exact hr)
  · have hK1 : Sx K cX10_findIn 27 [none, none, none, none, none] [] h (some (.ok ())) Q1 := hK1
    have ih1 : ∀ (n : Nat) (x4_3 : Int32), Sx K cX10_findIn 3 [some (.ref a0), some (.int a1), some (.long a2), none, some (.int x4_3)] [] h (lp_X10_findIn_3 F h a0 a1 a2 n x4_3) Q1 := by
      intro n
      induction n with
      | zero => intro x4_3; exact Sx.none
      | succ n ih1 =>
        intro x4_3
        rw [lp_X10_findIn_3.eq_2]
        refine S_iload (dc_X10_findIn 2 rfl) rfl ?_
        refine S_iload_n (dc_X10_findIn 3 rfl) rfl ?_
        refine S_icmp_ge 27 (dc_X10_findIn 4 rfl) rfl (fun c6 => ?_) (fun c6 => ?_)
        · refine Sx.cut [false, false, false, true, false] ?_
          exact hK1
        · refine S_aload_n (dc_X10_findIn 5 rfl) rfl ?_
          refine S_iload (dc_X10_findIn 6 rfl) rfl ?_
          refine S_lald (dc_X10_findIn 7 rfl) (fun x12 e12 => ?_)
          refine S_lload_n (dc_X10_findIn 8 rfl) rfl ?_
          refine S_lcmp (dc_X10_findIn 9 rfl) ?_
          refine S_if_ne 21 (dc_X10_findIn 10 rfl) rfl (fun c15 => ?_) (fun c15 => ?_)
          · refine S_iincN 1 (L' := fun x21 => [some (.ref a0), some (.int a1), some (.long a2), none, some (.int x21)]) (dc_X10_findIn 13 rfl) rfl rfl (fun _ => rfl) (fun x21 n21 => ?_)
            refine S_goto 3 (dc_X10_findIn 14 rfl) rfl ?_
            exact ih1 x21
          · refine S_iload (dc_X10_findIn 11 rfl) rfl ?_
            refine Sx.err hE1 ?_
            exact S_iret (dc_X10_findIn 12 rfl) hT rfl (fun q => by cases q; exact hr)
    exact ih1 F 0
abbrev cX10_cornersOf : ByteArray := prog_18_method_28_code
def yX10_cornersOf : MethodName := ⟨"PegBandsModel", "cornersOf", "([II)I"⟩
def tb_X10_cornersOf : List (Nat × Instr × Nat) := [(0, .aload_n 0, 1), (1, .bipush 105, 2), (3, .bipush 17, 2), (5, .iload_n 1, 1), (6, .imul, 1), (7, .iadd, 1), (8, .iaload, 1), (9, .ireturn, 1)]
theorem tk_X10_cornersOf : ∀ q ∈ tb_X10_cornersOf, decode cX10_cornersOf q.1 = .ok q.2 := by decide +kernel
theorem dc_X10_cornersOf (k : Nat) {pc n : Nat} {i : Instr} (h : tb_X10_cornersOf[k]? = some (pc, i, n)) : decode cX10_cornersOf pc = .ok (i, n) := tk_X10_cornersOf (pc, i, n) (List.mem_of_getElem? h)
abbrev mX10_cornersOf : e_M := (yX10_cornersOf, cX10_cornersOf, 2, some (.int), [])
theorem ok_X10_cornersOf : e_mok mX10_cornersOf 2 := ⟨q1734, q119, by decide +kernel, fun sig h => by cases h; rfl⟩
def f_X10_cornersOf (h : e_H) (a0 : Nat) (a1 : Int32) : Option Int32 :=
  Option.bind (e_aI h a0 0 (105 + (17 * a1))) (fun x8 =>
  some x8)
set_option maxHeartbeats 4000000 in
set_option maxRecDepth 100000 in
theorem ct_X10_cornersOf {l : Launch} {D : e_D} {B : Heap} {d : Nat} {h : e_H} {a0 : Nat} {a1 : Int32} {v : Int32} (hd : 1 ≤ d) (e : f_X10_cornersOf h a0 a1 = some v) : e_Run l D B d mX10_cornersOf [.ref a0, .int a1] h (.ok (some (.int v)), h) := by
  refine e_start [some (.ref a0), some (.int a1)] (by decide) rfl rfl rfl (Nat.le_of_ble_eq_true rfl) (fun K hl0 hD0 hB0 hM hd0 hr => ?_)
  subst hl0 hD0 hB0 hd0
  have ho : (k_M K).1.cls = "PegBandsModel" := by rw [hM]; rfl
  have hT : (k_M K).2.2.2.1 = some (.int) := by rw [hM]
  refine (show Sx K cX10_cornersOf 0 [some (.ref a0), some (.int a1)] [] h (f_X10_cornersOf h a0 a1) (fun w => w = v) from ?_) _ e rfl
  clear e
  unfold f_X10_cornersOf
  refine S_aload_n (dc_X10_cornersOf 0 rfl) rfl ?_
  refine S_bipush_ 105 (dc_X10_cornersOf 1 rfl) rfl ?_
  refine S_bipush_ 17 (dc_X10_cornersOf 2 rfl) rfl ?_
  refine S_iload_n (dc_X10_cornersOf 3 rfl) rfl ?_
  refine S_imul (dc_X10_cornersOf 4 rfl) ?_
  refine S_iadd (dc_X10_cornersOf 5 rfl) ?_
  refine S_iald (dc_X10_cornersOf 6 rfl) (fun x8 e8 => ?_)
  exact S_iret (dc_X10_cornersOf 7 rfl) hT rfl (fun q => by cases q; exact hr)
abbrev cX10_xOf : ByteArray := prog_18_method_29_code
def yX10_xOf : MethodName := ⟨"PegBandsModel", "xOf", "([III)I"⟩
def tb_X10_xOf : List (Nat × Instr × Nat) := [(0, .aload_n 0, 1), (1, .bipush 105, 2), (3, .bipush 17, 2), (5, .iload_n 1, 1), (6, .imul, 1), (7, .iadd, 1), (8, .iconst 1, 1), (9, .iadd, 1), (10, .iconst 2, 1), (11, .iload_n 2, 1), (12, .imul, 1), (13, .iadd, 1), (14, .iaload, 1), (15, .ireturn, 1)]
theorem tk_X10_xOf : ∀ q ∈ tb_X10_xOf, decode cX10_xOf q.1 = .ok q.2 := by decide +kernel
theorem dc_X10_xOf (k : Nat) {pc n : Nat} {i : Instr} (h : tb_X10_xOf[k]? = some (pc, i, n)) : decode cX10_xOf pc = .ok (i, n) := tk_X10_xOf (pc, i, n) (List.mem_of_getElem? h)
abbrev mX10_xOf : e_M := (yX10_xOf, cX10_xOf, 3, some (.int), [])
theorem ok_X10_xOf : e_mok mX10_xOf 3 := ⟨q1737, q119, by decide +kernel, fun sig h => by cases h; rfl⟩
def f_X10_xOf (h : e_H) (a0 : Nat) (a1 : Int32) (a2 : Int32) : Option Int32 :=
  Option.bind (e_aI h a0 0 (((105 + (17 * a1)) + 1) + (2 * a2))) (fun x14 =>
  some x14)
set_option maxHeartbeats 4000000 in
set_option maxRecDepth 100000 in
theorem ct_X10_xOf {l : Launch} {D : e_D} {B : Heap} {d : Nat} {h : e_H} {a0 : Nat} {a1 : Int32} {a2 : Int32} {v : Int32} (hd : 1 ≤ d) (e : f_X10_xOf h a0 a1 a2 = some v) : e_Run l D B d mX10_xOf [.ref a0, .int a1, .int a2] h (.ok (some (.int v)), h) := by
  refine e_start [some (.ref a0), some (.int a1), some (.int a2)] (by decide) rfl rfl rfl (Nat.le_of_ble_eq_true rfl) (fun K hl0 hD0 hB0 hM hd0 hr => ?_)
  subst hl0 hD0 hB0 hd0
  have ho : (k_M K).1.cls = "PegBandsModel" := by rw [hM]; rfl
  have hT : (k_M K).2.2.2.1 = some (.int) := by rw [hM]
  refine (show Sx K cX10_xOf 0 [some (.ref a0), some (.int a1), some (.int a2)] [] h (f_X10_xOf h a0 a1 a2) (fun w => w = v) from ?_) _ e rfl
  clear e
  unfold f_X10_xOf
  refine S_aload_n (dc_X10_xOf 0 rfl) rfl ?_
  refine S_bipush_ 105 (dc_X10_xOf 1 rfl) rfl ?_
  refine S_bipush_ 17 (dc_X10_xOf 2 rfl) rfl ?_
  refine S_iload_n (dc_X10_xOf 3 rfl) rfl ?_
  refine S_imul (dc_X10_xOf 4 rfl) ?_
  refine S_iadd (dc_X10_xOf 5 rfl) ?_
  refine S_iconst_ 1 (dc_X10_xOf 6 rfl) rfl ?_
  refine S_iadd (dc_X10_xOf 7 rfl) ?_
  refine S_iconst_ 2 (dc_X10_xOf 8 rfl) rfl ?_
  refine S_iload_n (dc_X10_xOf 9 rfl) rfl ?_
  refine S_imul (dc_X10_xOf 10 rfl) ?_
  refine S_iadd (dc_X10_xOf 11 rfl) ?_
  refine S_iald (dc_X10_xOf 12 rfl) (fun x14 e14 => ?_)
  exact S_iret (dc_X10_xOf 13 rfl) hT rfl (fun q => by cases q; exact hr)
abbrev cX10_yOf : ByteArray := prog_18_method_30_code
def yX10_yOf : MethodName := ⟨"PegBandsModel", "yOf", "([III)I"⟩
def tb_X10_yOf : List (Nat × Instr × Nat) := [(0, .aload_n 0, 1), (1, .bipush 105, 2), (3, .bipush 17, 2), (5, .iload_n 1, 1), (6, .imul, 1), (7, .iadd, 1), (8, .iconst 2, 1), (9, .iadd, 1), (10, .iconst 2, 1), (11, .iload_n 2, 1), (12, .imul, 1), (13, .iadd, 1), (14, .iaload, 1), (15, .ireturn, 1)]
theorem tk_X10_yOf : ∀ q ∈ tb_X10_yOf, decode cX10_yOf q.1 = .ok q.2 := by decide +kernel
theorem dc_X10_yOf (k : Nat) {pc n : Nat} {i : Instr} (h : tb_X10_yOf[k]? = some (pc, i, n)) : decode cX10_yOf pc = .ok (i, n) := tk_X10_yOf (pc, i, n) (List.mem_of_getElem? h)
abbrev mX10_yOf : e_M := (yX10_yOf, cX10_yOf, 3, some (.int), [])
theorem ok_X10_yOf : e_mok mX10_yOf 3 := ⟨q1740, q119, by decide +kernel, fun sig h => by cases h; rfl⟩
def f_X10_yOf (h : e_H) (a0 : Nat) (a1 : Int32) (a2 : Int32) : Option Int32 :=
  Option.bind (e_aI h a0 0 (((105 + (17 * a1)) + 2) + (2 * a2))) (fun x14 =>
  some x14)
set_option maxHeartbeats 4000000 in
set_option maxRecDepth 100000 in
theorem ct_X10_yOf {l : Launch} {D : e_D} {B : Heap} {d : Nat} {h : e_H} {a0 : Nat} {a1 : Int32} {a2 : Int32} {v : Int32} (hd : 1 ≤ d) (e : f_X10_yOf h a0 a1 a2 = some v) : e_Run l D B d mX10_yOf [.ref a0, .int a1, .int a2] h (.ok (some (.int v)), h) := by
  refine e_start [some (.ref a0), some (.int a1), some (.int a2)] (by decide) rfl rfl rfl (Nat.le_of_ble_eq_true rfl) (fun K hl0 hD0 hB0 hM hd0 hr => ?_)
  subst hl0 hD0 hB0 hd0
  have ho : (k_M K).1.cls = "PegBandsModel" := by rw [hM]; rfl
  have hT : (k_M K).2.2.2.1 = some (.int) := by rw [hM]
  refine (show Sx K cX10_yOf 0 [some (.ref a0), some (.int a1), some (.int a2)] [] h (f_X10_yOf h a0 a1 a2) (fun w => w = v) from ?_) _ e rfl
  clear e
  unfold f_X10_yOf
  refine S_aload_n (dc_X10_yOf 0 rfl) rfl ?_
  refine S_bipush_ 105 (dc_X10_yOf 1 rfl) rfl ?_
  refine S_bipush_ 17 (dc_X10_yOf 2 rfl) rfl ?_
  refine S_iload_n (dc_X10_yOf 3 rfl) rfl ?_
  refine S_imul (dc_X10_yOf 4 rfl) ?_
  refine S_iadd (dc_X10_yOf 5 rfl) ?_
  refine S_iconst_ 2 (dc_X10_yOf 6 rfl) rfl ?_
  refine S_iadd (dc_X10_yOf 7 rfl) ?_
  refine S_iconst_ 2 (dc_X10_yOf 8 rfl) rfl ?_
  refine S_iload_n (dc_X10_yOf 9 rfl) rfl ?_
  refine S_imul (dc_X10_yOf 10 rfl) ?_
  refine S_iadd (dc_X10_yOf 11 rfl) ?_
  refine S_iald (dc_X10_yOf 12 rfl) (fun x14 e14 => ?_)
  exact S_iret (dc_X10_yOf 13 rfl) hT rfl (fun q => by cases q; exact hr)
abbrev cX10_isPlace : ByteArray := prog_18_method_36_code
def yX10_isPlace : MethodName := ⟨"PegBandsModel", "isPlace", "([III)Z"⟩
def tb_X10_isPlace : List (Nat × Instr × Nat) := [(0, .iload_n 1, 1), (1, .ifCond .lt 25, 3), (4, .iload_n 2, 1), (5, .ifCond .lt 21, 3), (8, .iload_n 1, 1), (9, .aload_n 0, 1), (10, .iconst 0, 1), (11, .iaload, 1), (12, .if_icmp .ge 14, 3), (15, .iload_n 2, 1), (16, .aload_n 0, 1), (17, .iconst 1, 1), (18, .iaload, 1), (19, .if_icmp .ge 7, 3), (22, .iconst 1, 1), (23, .goto 4, 3), (26, .iconst 0, 1), (27, .ireturn, 1)]
theorem tk_X10_isPlace : ∀ q ∈ tb_X10_isPlace, decode cX10_isPlace q.1 = .ok q.2 := by decide +kernel
theorem dc_X10_isPlace (k : Nat) {pc n : Nat} {i : Instr} (h : tb_X10_isPlace[k]? = some (pc, i, n)) : decode cX10_isPlace pc = .ok (i, n) := tk_X10_isPlace (pc, i, n) (List.mem_of_getElem? h)
abbrev mX10_isPlace : e_M := (yX10_isPlace, cX10_isPlace, 3, some (.boolean), [])
theorem ok_X10_isPlace : e_mok mX10_isPlace 3 := ⟨q1746, q119, by decide +kernel, fun sig h => by cases h; rfl⟩
def f_X10_isPlace (h : e_H) (a0 : Nat) (a1 : Int32) (a2 : Int32) : Option Int32 :=
  if a1 < 0 then
    some 0
  else
    if a2 < 0 then
      some 0
    else
      Option.bind (e_aI h a0 0 0) (fun x11 =>
      if x11 ≤ a1 then
        some 0
      else
        Option.bind (e_aI h a0 0 1) (fun x18 =>
        if x18 ≤ a2 then
          some 0
        else
          some 1))
set_option maxHeartbeats 4000000 in
set_option maxRecDepth 100000 in
theorem ct_X10_isPlace {l : Launch} {D : e_D} {B : Heap} {d : Nat} {h : e_H} {a0 : Nat} {a1 : Int32} {a2 : Int32} {v : Int32} (hd : 1 ≤ d) (e : f_X10_isPlace h a0 a1 a2 = some v) : e_Run l D B d mX10_isPlace [.ref a0, .int a1, .int a2] h (.ok (some (.int v)), h) := by
  refine e_start [some (.ref a0), some (.int a1), some (.int a2)] (by decide) rfl rfl rfl (Nat.le_of_ble_eq_true rfl) (fun K hl0 hD0 hB0 hM hd0 hr => ?_)
  subst hl0 hD0 hB0 hd0
  have ho : (k_M K).1.cls = "PegBandsModel" := by rw [hM]; rfl
  have hT : (k_M K).2.2.2.1 = some (.boolean) := by rw [hM]
  refine (show Sx K cX10_isPlace 0 [some (.ref a0), some (.int a1), some (.int a2)] [] h (f_X10_isPlace h a0 a1 a2) (fun w => w = v) from ?_) _ e rfl
  clear e
  unfold f_X10_isPlace
  refine S_iload_n (dc_X10_isPlace 0 rfl) rfl ?_
  refine S_if_lt 26 (dc_X10_isPlace 1 rfl) rfl (fun c1 => ?_) (fun c1 => ?_)
  · refine S_iconst_ 0 (dc_X10_isPlace 16 rfl) rfl ?_
    exact S_iret (dc_X10_isPlace 17 rfl) hT rfl (fun q => by cases q; exact hr)
  · refine S_iload_n (dc_X10_isPlace 2 rfl) rfl ?_
    refine S_if_lt 26 (dc_X10_isPlace 3 rfl) rfl (fun c5 => ?_) (fun c5 => ?_)
    · refine S_iconst_ 0 (dc_X10_isPlace 16 rfl) rfl ?_
      exact S_iret (dc_X10_isPlace 17 rfl) hT rfl (fun q => by cases q; exact hr)
    · refine S_iload_n (dc_X10_isPlace 4 rfl) rfl ?_
      refine S_aload_n (dc_X10_isPlace 5 rfl) rfl ?_
      refine S_iconst_ 0 (dc_X10_isPlace 6 rfl) rfl ?_
      refine S_iald (dc_X10_isPlace 7 rfl) (fun x11 e11 => ?_)
      refine S_icmp_ge 26 (dc_X10_isPlace 8 rfl) rfl (fun c12 => ?_) (fun c12 => ?_)
      · refine S_iconst_ 0 (dc_X10_isPlace 16 rfl) rfl ?_
        exact S_iret (dc_X10_isPlace 17 rfl) hT rfl (fun q => by cases q; exact hr)
      · refine S_iload_n (dc_X10_isPlace 9 rfl) rfl ?_
        refine S_aload_n (dc_X10_isPlace 10 rfl) rfl ?_
        refine S_iconst_ 1 (dc_X10_isPlace 11 rfl) rfl ?_
        refine S_iald (dc_X10_isPlace 12 rfl) (fun x18 e18 => ?_)
        refine S_icmp_ge 26 (dc_X10_isPlace 13 rfl) rfl (fun c19 => ?_) (fun c19 => ?_)
        · refine S_iconst_ 0 (dc_X10_isPlace 16 rfl) rfl ?_
          exact S_iret (dc_X10_isPlace 17 rfl) hT rfl (fun q => by cases q; exact hr)
        · refine S_iconst_ 1 (dc_X10_isPlace 14 rfl) rfl ?_
          refine S_goto 27 (dc_X10_isPlace 15 rfl) rfl ?_
          exact S_iret (dc_X10_isPlace 17 rfl) hT rfl (fun q => by cases q; exact hr)
abbrev cX10_isPeg : ByteArray := prog_18_method_37_code
def yX10_isPeg : MethodName := ⟨"PegBandsModel", "isPeg", "([III)Z"⟩
def tb_X10_isPeg : List (Nat × Instr × Nat) := [(0, .aload_n 0, 1), (1, .iload_n 1, 1), (2, .iload_n 2, 1), (3, .invokestatic 218, 3), (6, .ifCond .eq 20, 3), (9, .aload_n 0, 1), (10, .iconst 5, 1), (11, .bipush 10, 2), (13, .iload_n 2, 1), (14, .imul, 1), (15, .iadd, 1), (16, .iload_n 1, 1), (17, .iadd, 1), (18, .iaload, 1), (19, .ifCond .ne 7, 3), (22, .iconst 1, 1), (23, .goto 4, 3), (26, .iconst 0, 1), (27, .ireturn, 1)]
theorem tk_X10_isPeg : ∀ q ∈ tb_X10_isPeg, decode cX10_isPeg q.1 = .ok q.2 := by decide +kernel
theorem dc_X10_isPeg (k : Nat) {pc n : Nat} {i : Instr} (h : tb_X10_isPeg[k]? = some (pc, i, n)) : decode cX10_isPeg pc = .ok (i, n) := tk_X10_isPeg (pc, i, n) (List.mem_of_getElem? h)
abbrev mX10_isPeg : e_M := (yX10_isPeg, cX10_isPeg, 3, some (.boolean), [])
theorem ok_X10_isPeg : e_mok mX10_isPeg 3 := ⟨q1743, q119, by decide +kernel, fun sig h => by cases h; rfl⟩
def f_X10_isPeg (h : e_H) (a0 : Nat) (a1 : Int32) (a2 : Int32) : Option Int32 :=
  Option.bind (f_X10_isPlace h a0 a1 a2) (fun x3 =>
  if x3 = 0 then
    some 0
  else
    Option.bind (e_aI h a0 0 ((5 + (10 * a2)) + a1)) (fun x18 =>
    if x18 = 0 then
      some 1
    else
      some 0))
set_option maxHeartbeats 4000000 in
set_option maxRecDepth 100000 in
theorem ct_X10_isPeg {l : Launch} {D : e_D} {B : Heap} {d : Nat} {h : e_H} {a0 : Nat} {a1 : Int32} {a2 : Int32} {v : Int32} (hd : 2 ≤ d) (e : f_X10_isPeg h a0 a1 a2 = some v) : e_Run l D B d mX10_isPeg [.ref a0, .int a1, .int a2] h (.ok (some (.int v)), h) := by
  refine e_start [some (.ref a0), some (.int a1), some (.int a2)] (by decide) rfl rfl rfl (Nat.le_of_ble_eq_true rfl) (fun K hl0 hD0 hB0 hM hd0 hr => ?_)
  subst hl0 hD0 hB0 hd0
  have ho : (k_M K).1.cls = "PegBandsModel" := by rw [hM]; rfl
  have hT : (k_M K).2.2.2.1 = some (.boolean) := by rw [hM]
  refine (show Sx K cX10_isPeg 0 [some (.ref a0), some (.int a1), some (.int a2)] [] h (f_X10_isPeg h a0 a1 a2) (fun w => w = v) from ?_) _ e rfl
  clear e
  unfold f_X10_isPeg
  refine S_aload_n (dc_X10_isPeg 0 rfl) rfl ?_
  refine S_iload_n (dc_X10_isPeg 1 rfl) rfl ?_
  refine S_iload_n (dc_X10_isPeg 2 rfl) rfl ?_
  refine S_roI (d := k_d K - 1) (e_callS (As := [.ref a0, .int a1, .int a2]) (rest := []) ok_X10_isPlace rfl (Nat.le_of_ble_eq_true rfl) (dc_X10_isPeg 3 rfl) ho q1744 q1745 rfl (Nat.le_of_ble_eq_true rfl)) (by omega) (fun _ e => ct_X10_isPlace (by omega) e) (fun x3 e3 => ?_)
  refine S_if_eq 26 (dc_X10_isPeg 4 rfl) rfl (fun c6 => ?_) (fun c6 => ?_)
  · refine S_iconst_ 0 (dc_X10_isPeg 17 rfl) rfl ?_
    exact S_iret (dc_X10_isPeg 18 rfl) hT rfl (fun q => by cases q; exact hr)
  · refine S_aload_n (dc_X10_isPeg 5 rfl) rfl ?_
    refine S_iconst_ 5 (dc_X10_isPeg 6 rfl) rfl ?_
    refine S_bipush_ 10 (dc_X10_isPeg 7 rfl) rfl ?_
    refine S_iload_n (dc_X10_isPeg 8 rfl) rfl ?_
    refine S_imul (dc_X10_isPeg 9 rfl) ?_
    refine S_iadd (dc_X10_isPeg 10 rfl) ?_
    refine S_iload_n (dc_X10_isPeg 11 rfl) rfl ?_
    refine S_iadd (dc_X10_isPeg 12 rfl) ?_
    refine S_iald (dc_X10_isPeg 13 rfl) (fun x18 e18 => ?_)
    refine S_if_ne 26 (dc_X10_isPeg 14 rfl) rfl (fun c19 => ?_) (fun c19 => ?_)
    · refine S_iconst_ 0 (dc_X10_isPeg 17 rfl) rfl ?_
      exact S_iret (dc_X10_isPeg 18 rfl) hT rfl (fun q => by cases q; exact hr)
    · refine S_iconst_ 1 (dc_X10_isPeg 15 rfl) rfl ?_
      refine S_goto 27 (dc_X10_isPeg 16 rfl) rfl ?_
      exact S_iret (dc_X10_isPeg 18 rfl) hT rfl (fun q => by cases q; exact hr)
abbrev cX10_sign : ByteArray := prog_18_method_10_code
def yX10_sign : MethodName := ⟨"PegBandsModel", "sign", "(I)I"⟩
def tb_X10_sign : List (Nat × Instr × Nat) := [(0, .iload_n 0, 1), (1, .ifCond .le 7, 3), (4, .iconst 1, 1), (5, .goto 12, 3), (8, .iload_n 0, 1), (9, .ifCond .ge 7, 3), (12, .iconst (-1), 1), (13, .goto 4, 3), (16, .iconst 0, 1), (17, .ireturn, 1)]
theorem tk_X10_sign : ∀ q ∈ tb_X10_sign, decode cX10_sign q.1 = .ok q.2 := by decide +kernel
theorem dc_X10_sign (k : Nat) {pc n : Nat} {i : Instr} (h : tb_X10_sign[k]? = some (pc, i, n)) : decode cX10_sign pc = .ok (i, n) := tk_X10_sign (pc, i, n) (List.mem_of_getElem? h)
abbrev mX10_sign : e_M := (yX10_sign, cX10_sign, 1, some (.int), [])
theorem ok_X10_sign : e_mok mX10_sign 1 := ⟨q1755, q119, by decide +kernel, fun sig h => by cases h; rfl⟩
def f_X10_sign (a0 : Int32) : Option Int32 :=
  if a0 ≤ 0 then
    if 0 ≤ a0 then
      some 0
    else
      some (-1)
  else
    some 1
set_option maxHeartbeats 4000000 in
set_option maxRecDepth 100000 in
theorem ct_X10_sign {l : Launch} {D : e_D} {B : Heap} {d : Nat} {h : e_H} {a0 : Int32} {v : Int32} (hd : 1 ≤ d) (e : f_X10_sign a0 = some v) : e_Run l D B d mX10_sign [.int a0] h (.ok (some (.int v)), h) := by
  refine e_start [some (.int a0)] (by decide) rfl rfl rfl (Nat.le_of_ble_eq_true rfl) (fun K hl0 hD0 hB0 hM hd0 hr => ?_)
  subst hl0 hD0 hB0 hd0
  have ho : (k_M K).1.cls = "PegBandsModel" := by rw [hM]; rfl
  have hT : (k_M K).2.2.2.1 = some (.int) := by rw [hM]
  refine (show Sx K cX10_sign 0 [some (.int a0)] [] h (f_X10_sign a0) (fun w => w = v) from ?_) _ e rfl
  clear e
  unfold f_X10_sign
  refine S_iload_n (dc_X10_sign 0 rfl) rfl ?_
  refine S_if_le 8 (dc_X10_sign 1 rfl) rfl (fun c1 => ?_) (fun c1 => ?_)
  · refine S_iload_n (dc_X10_sign 4 rfl) rfl ?_
    refine S_if_ge 16 (dc_X10_sign 5 rfl) rfl (fun c9 => ?_) (fun c9 => ?_)
    · refine S_iconst_ 0 (dc_X10_sign 8 rfl) rfl ?_
      exact S_iret (dc_X10_sign 9 rfl) hT rfl (fun q => by cases q; exact hr)
    · refine S_iconst_ (-1) (dc_X10_sign 6 rfl) rfl ?_
      refine S_goto 17 (dc_X10_sign 7 rfl) rfl ?_
      exact S_iret (dc_X10_sign 9 rfl) hT rfl (fun q => by cases q; exact hr)
  · refine S_iconst_ 1 (dc_X10_sign 2 rfl) rfl ?_
    refine S_goto 17 (dc_X10_sign 3 rfl) rfl ?_
    exact S_iret (dc_X10_sign 9 rfl) hT rfl (fun q => by cases q; exact hr)
abbrev cX10_turn : ByteArray := prog_18_method_31_code
def yX10_turn : MethodName := ⟨"PegBandsModel", "turn", "(IIIIII)I"⟩
def tb_X10_turn : List (Nat × Instr × Nat) := [(0, .iload_n 2, 1), (1, .iload_n 0, 1), (2, .isub, 1), (3, .iload 5, 2), (5, .iload_n 1, 1), (6, .isub, 1), (7, .imul, 1), (8, .iload_n 3, 1), (9, .iload_n 1, 1), (10, .isub, 1), (11, .iload 4, 2), (13, .iload_n 0, 1), (14, .isub, 1), (15, .imul, 1), (16, .isub, 1), (17, .invokestatic 189, 3), (20, .ireturn, 1)]
theorem tk_X10_turn : ∀ q ∈ tb_X10_turn, decode cX10_turn q.1 = .ok q.2 := by decide +kernel
theorem dc_X10_turn (k : Nat) {pc n : Nat} {i : Instr} (h : tb_X10_turn[k]? = some (pc, i, n)) : decode cX10_turn pc = .ok (i, n) := tk_X10_turn (pc, i, n) (List.mem_of_getElem? h)
abbrev mX10_turn : e_M := (yX10_turn, cX10_turn, 6, some (.int), [])
theorem ok_X10_turn : e_mok mX10_turn 6 := ⟨q1752, q119, by decide +kernel, fun sig h => by cases h; rfl⟩
def f_X10_turn (a0 : Int32) (a1 : Int32) (a2 : Int32) (a3 : Int32) (a4 : Int32) (a5 : Int32) : Option Int32 :=
  Option.bind (f_X10_sign (((a2 - a0) * (a5 - a1)) - ((a3 - a1) * (a4 - a0)))) (fun x17 =>
  some x17)
set_option maxHeartbeats 4000000 in
set_option maxRecDepth 100000 in
theorem ct_X10_turn {l : Launch} {D : e_D} {B : Heap} {d : Nat} {h : e_H} {a0 : Int32} {a1 : Int32} {a2 : Int32} {a3 : Int32} {a4 : Int32} {a5 : Int32} {v : Int32} (hd : 2 ≤ d) (e : f_X10_turn a0 a1 a2 a3 a4 a5 = some v) : e_Run l D B d mX10_turn [.int a0, .int a1, .int a2, .int a3, .int a4, .int a5] h (.ok (some (.int v)), h) := by
  refine e_start [some (.int a0), some (.int a1), some (.int a2), some (.int a3), some (.int a4), some (.int a5)] (by decide) rfl rfl rfl (Nat.le_of_ble_eq_true rfl) (fun K hl0 hD0 hB0 hM hd0 hr => ?_)
  subst hl0 hD0 hB0 hd0
  have ho : (k_M K).1.cls = "PegBandsModel" := by rw [hM]; rfl
  have hT : (k_M K).2.2.2.1 = some (.int) := by rw [hM]
  refine (show Sx K cX10_turn 0 [some (.int a0), some (.int a1), some (.int a2), some (.int a3), some (.int a4), some (.int a5)] [] h (f_X10_turn a0 a1 a2 a3 a4 a5) (fun w => w = v) from ?_) _ e rfl
  clear e
  unfold f_X10_turn
  refine S_iload_n (dc_X10_turn 0 rfl) rfl ?_
  refine S_iload_n (dc_X10_turn 1 rfl) rfl ?_
  refine S_isub (dc_X10_turn 2 rfl) ?_
  refine S_iload (dc_X10_turn 3 rfl) rfl ?_
  refine S_iload_n (dc_X10_turn 4 rfl) rfl ?_
  refine S_isub (dc_X10_turn 5 rfl) ?_
  refine S_imul (dc_X10_turn 6 rfl) ?_
  refine S_iload_n (dc_X10_turn 7 rfl) rfl ?_
  refine S_iload_n (dc_X10_turn 8 rfl) rfl ?_
  refine S_isub (dc_X10_turn 9 rfl) ?_
  refine S_iload (dc_X10_turn 10 rfl) rfl ?_
  refine S_iload_n (dc_X10_turn 11 rfl) rfl ?_
  refine S_isub (dc_X10_turn 12 rfl) ?_
  refine S_imul (dc_X10_turn 13 rfl) ?_
  refine S_isub (dc_X10_turn 14 rfl) ?_
  refine S_roI (d := k_d K - 1) (e_callS (As := [.int (((a2 - a0) * (a5 - a1)) - ((a3 - a1) * (a4 - a0)))]) (rest := []) ok_X10_sign rfl (Nat.le_of_ble_eq_true rfl) (dc_X10_turn 15 rfl) ho q1753 q1754 rfl (Nat.le_of_ble_eq_true rfl)) (by omega) (fun _ e => ct_X10_sign (by omega) e) (fun x17 e17 => ?_)
  exact S_iret (dc_X10_turn 16 rfl) hT rfl (fun q => by cases q; exact hr)
abbrev cX10_turnAt : ByteArray := prog_18_method_40_code
def yX10_turnAt : MethodName := ⟨"PegBandsModel", "turnAt", "([III)I"⟩
def tb_X10_turnAt : List (Nat × Instr × Nat) := [(0, .aload_n 0, 1), (1, .iload_n 1, 1), (2, .invokestatic 203, 3), (5, .istore_n 3, 1), (6, .iload_n 2, 1), (7, .iload_n 3, 1), (8, .iadd, 1), (9, .iconst 1, 1), (10, .isub, 1), (11, .iload_n 3, 1), (12, .irem, 1), (13, .istore 4, 2), (15, .iload_n 2, 1), (16, .iconst 1, 1), (17, .iadd, 1), (18, .iload_n 3, 1), (19, .irem, 1), (20, .istore 5, 2), (22, .aload_n 0, 1), (23, .iload_n 1, 1), (24, .iload 4, 2), (26, .invokestatic 207, 3), (29, .aload_n 0, 1), (30, .iload_n 1, 1), (31, .iload 4, 2), (33, .invokestatic 211, 3), (36, .aload_n 0, 1), (37, .iload_n 1, 1), (38, .iload_n 2, 1), (39, .invokestatic 207, 3), (42, .aload_n 0, 1), (43, .iload_n 1, 1), (44, .iload_n 2, 1), (45, .invokestatic 211, 3), (48, .aload_n 0, 1), (49, .iload_n 1, 1), (50, .iload 5, 2), (52, .invokestatic 207, 3), (55, .aload_n 0, 1), (56, .iload_n 1, 1), (57, .iload 5, 2), (59, .invokestatic 211, 3), (62, .invokestatic 192, 3), (65, .ireturn, 1)]
theorem tk_X10_turnAt : ∀ q ∈ tb_X10_turnAt, decode cX10_turnAt q.1 = .ok q.2 := by decide +kernel
theorem dc_X10_turnAt (k : Nat) {pc n : Nat} {i : Instr} (h : tb_X10_turnAt[k]? = some (pc, i, n)) : decode cX10_turnAt pc = .ok (i, n) := tk_X10_turnAt (pc, i, n) (List.mem_of_getElem? h)
abbrev mX10_turnAt : e_M := (yX10_turnAt, cX10_turnAt, 6, some (.int), [])
theorem ok_X10_turnAt : e_mok mX10_turnAt 3 := ⟨q1749, q119, by decide +kernel, fun sig h => by cases h; rfl⟩
def f_X10_turnAt (h : e_H) (a0 : Nat) (a1 : Int32) (a2 : Int32) : Option Int32 :=
  Option.bind (f_X10_cornersOf h a0 a1) (fun x2 =>
  if x2 = 0 then none else
  Option.bind (some (((a2 + x2) - 1) - ((a2 + x2) - 1) / x2 * x2)) (fun x13 =>
  if x2 = 0 then none else
  Option.bind (some ((a2 + 1) - (a2 + 1) / x2 * x2)) (fun x20 =>
  Option.bind (f_X10_xOf h a0 a1 x13) (fun x26 =>
  Option.bind (f_X10_yOf h a0 a1 x13) (fun x33 =>
  Option.bind (f_X10_xOf h a0 a1 a2) (fun x39 =>
  Option.bind (f_X10_yOf h a0 a1 a2) (fun x45 =>
  Option.bind (f_X10_xOf h a0 a1 x20) (fun x52 =>
  Option.bind (f_X10_yOf h a0 a1 x20) (fun x59 =>
  Option.bind (f_X10_turn x26 x33 x39 x45 x52 x59) (fun x62 =>
  some x62))))))))))
set_option maxHeartbeats 4000000 in
set_option maxRecDepth 100000 in
theorem ct_X10_turnAt {l : Launch} {D : e_D} {B : Heap} {d : Nat} {h : e_H} {a0 : Nat} {a1 : Int32} {a2 : Int32} {v : Int32} (hd : 3 ≤ d) (e : f_X10_turnAt h a0 a1 a2 = some v) : e_Run l D B d mX10_turnAt [.ref a0, .int a1, .int a2] h (.ok (some (.int v)), h) := by
  refine e_start [some (.ref a0), some (.int a1), some (.int a2), none, none, none] (by decide) rfl rfl rfl (Nat.le_of_ble_eq_true rfl) (fun K hl0 hD0 hB0 hM hd0 hr => ?_)
  subst hl0 hD0 hB0 hd0
  have ho : (k_M K).1.cls = "PegBandsModel" := by rw [hM]; rfl
  have hT : (k_M K).2.2.2.1 = some (.int) := by rw [hM]
  refine (show Sx K cX10_turnAt 0 [some (.ref a0), some (.int a1), some (.int a2), none, none, none] [] h (f_X10_turnAt h a0 a1 a2) (fun w => w = v) from ?_) _ e rfl
  clear e
  unfold f_X10_turnAt
  refine S_aload_n (dc_X10_turnAt 0 rfl) rfl ?_
  refine S_iload_n (dc_X10_turnAt 1 rfl) rfl ?_
  refine S_roI (d := k_d K - 1) (e_callS (As := [.ref a0, .int a1]) (rest := []) ok_X10_cornersOf rfl (Nat.le_of_ble_eq_true rfl) (dc_X10_turnAt 2 rfl) ho q1732 q1733 rfl (Nat.le_of_ble_eq_true rfl)) (by omega) (fun _ e => ct_X10_cornersOf (by omega) e) (fun x2 e2 => ?_)
  refine S_istore_n (L' := [some (.ref a0), some (.int a1), some (.int a2), some (.int x2), none, none]) (dc_X10_turnAt 3 rfl) rfl ?_
  refine S_iload_n (dc_X10_turnAt 4 rfl) rfl ?_
  refine S_iload_n (dc_X10_turnAt 5 rfl) rfl ?_
  refine S_iadd (dc_X10_turnAt 6 rfl) ?_
  refine S_iconst_ 1 (dc_X10_turnAt 7 rfl) rfl ?_
  refine S_isub (dc_X10_turnAt 8 rfl) ?_
  refine S_iload_n (dc_X10_turnAt 9 rfl) rfl ?_
  refine Sx.ncond (fun c12 => ?_)
  refine S_irem (dc_X10_turnAt 10 rfl) c12 ?_
  refine Sx.nameI (fun x13 n13 => ?_)
  refine S_istore (L' := [some (.ref a0), some (.int a1), some (.int a2), some (.int x2), some (.int x13), none]) (dc_X10_turnAt 11 rfl) rfl ?_
  refine S_iload_n (dc_X10_turnAt 12 rfl) rfl ?_
  refine S_iconst_ 1 (dc_X10_turnAt 13 rfl) rfl ?_
  refine S_iadd (dc_X10_turnAt 14 rfl) ?_
  refine S_iload_n (dc_X10_turnAt 15 rfl) rfl ?_
  refine Sx.ncond (fun c19 => ?_)
  refine S_irem (dc_X10_turnAt 16 rfl) c19 ?_
  refine Sx.nameI (fun x20 n20 => ?_)
  refine S_istore (L' := [some (.ref a0), some (.int a1), some (.int a2), some (.int x2), some (.int x13), some (.int x20)]) (dc_X10_turnAt 17 rfl) rfl ?_
  refine S_aload_n (dc_X10_turnAt 18 rfl) rfl ?_
  refine S_iload_n (dc_X10_turnAt 19 rfl) rfl ?_
  refine S_iload (dc_X10_turnAt 20 rfl) rfl ?_
  refine S_roI (d := k_d K - 1) (e_callS (As := [.ref a0, .int a1, .int x13]) (rest := []) ok_X10_xOf rfl (Nat.le_of_ble_eq_true rfl) (dc_X10_turnAt 21 rfl) ho q1735 q1736 rfl (Nat.le_of_ble_eq_true rfl)) (by omega) (fun _ e => ct_X10_xOf (by omega) e) (fun x26 e26 => ?_)
  refine S_aload_n (dc_X10_turnAt 22 rfl) rfl ?_
  refine S_iload_n (dc_X10_turnAt 23 rfl) rfl ?_
  refine S_iload (dc_X10_turnAt 24 rfl) rfl ?_
  refine S_roI (d := k_d K - 1) (e_callS (As := [.ref a0, .int a1, .int x13]) (rest := [.int x26]) ok_X10_yOf rfl (Nat.le_of_ble_eq_true rfl) (dc_X10_turnAt 25 rfl) ho q1738 q1739 rfl (Nat.le_of_ble_eq_true rfl)) (by omega) (fun _ e => ct_X10_yOf (by omega) e) (fun x33 e33 => ?_)
  refine S_aload_n (dc_X10_turnAt 26 rfl) rfl ?_
  refine S_iload_n (dc_X10_turnAt 27 rfl) rfl ?_
  refine S_iload_n (dc_X10_turnAt 28 rfl) rfl ?_
  refine S_roI (d := k_d K - 1) (e_callS (As := [.ref a0, .int a1, .int a2]) (rest := [.int x33, .int x26]) ok_X10_xOf rfl (Nat.le_of_ble_eq_true rfl) (dc_X10_turnAt 29 rfl) ho q1735 q1736 rfl (Nat.le_of_ble_eq_true rfl)) (by omega) (fun _ e => ct_X10_xOf (by omega) e) (fun x39 e39 => ?_)
  refine S_aload_n (dc_X10_turnAt 30 rfl) rfl ?_
  refine S_iload_n (dc_X10_turnAt 31 rfl) rfl ?_
  refine S_iload_n (dc_X10_turnAt 32 rfl) rfl ?_
  refine S_roI (d := k_d K - 1) (e_callS (As := [.ref a0, .int a1, .int a2]) (rest := [.int x39, .int x33, .int x26]) ok_X10_yOf rfl (Nat.le_of_ble_eq_true rfl) (dc_X10_turnAt 33 rfl) ho q1738 q1739 rfl (Nat.le_of_ble_eq_true rfl)) (by omega) (fun _ e => ct_X10_yOf (by omega) e) (fun x45 e45 => ?_)
  refine S_aload_n (dc_X10_turnAt 34 rfl) rfl ?_
  refine S_iload_n (dc_X10_turnAt 35 rfl) rfl ?_
  refine S_iload (dc_X10_turnAt 36 rfl) rfl ?_
  refine S_roI (d := k_d K - 1) (e_callS (As := [.ref a0, .int a1, .int x20]) (rest := [.int x45, .int x39, .int x33, .int x26]) ok_X10_xOf rfl (Nat.le_of_ble_eq_true rfl) (dc_X10_turnAt 37 rfl) ho q1735 q1736 rfl (Nat.le_of_ble_eq_true rfl)) (by omega) (fun _ e => ct_X10_xOf (by omega) e) (fun x52 e52 => ?_)
  refine S_aload_n (dc_X10_turnAt 38 rfl) rfl ?_
  refine S_iload_n (dc_X10_turnAt 39 rfl) rfl ?_
  refine S_iload (dc_X10_turnAt 40 rfl) rfl ?_
  refine S_roI (d := k_d K - 1) (e_callS (As := [.ref a0, .int a1, .int x20]) (rest := [.int x52, .int x45, .int x39, .int x33, .int x26]) ok_X10_yOf rfl (Nat.le_of_ble_eq_true rfl) (dc_X10_turnAt 41 rfl) ho q1738 q1739 rfl (Nat.le_of_ble_eq_true rfl)) (by omega) (fun _ e => ct_X10_yOf (by omega) e) (fun x59 e59 => ?_)
  refine S_roI (d := k_d K - 1) (e_callS (As := [.int x26, .int x33, .int x39, .int x45, .int x52, .int x59]) (rest := []) ok_X10_turn rfl (Nat.le_of_ble_eq_true rfl) (dc_X10_turnAt 42 rfl) ho q1750 q1751 rfl (Nat.le_of_ble_eq_true rfl)) (by omega) (fun _ e => ct_X10_turn (by omega) e) (fun x62 e62 => ?_)
  exact S_iret (dc_X10_turnAt 43 rfl) hT rfl (fun q => by cases q; exact hr)
abbrev cX10_isBetween : ByteArray := prog_18_method_32_code
def yX10_isBetween : MethodName := ⟨"PegBandsModel", "isBetween", "(III)Z"⟩
def tb_X10_isBetween : List (Nat × Instr × Nat) := [(0, .iload_n 1, 1), (1, .iload_n 2, 1), (2, .if_icmp .ge 21, 3), (5, .iload_n 0, 1), (6, .iload_n 1, 1), (7, .if_icmp .lt 12, 3), (10, .iload_n 0, 1), (11, .iload_n 2, 1), (12, .if_icmp .gt 7, 3), (15, .iconst 1, 1), (16, .goto 22, 3), (19, .iconst 0, 1), (20, .goto 18, 3), (23, .iload_n 0, 1), (24, .iload_n 2, 1), (25, .if_icmp .lt 12, 3), (28, .iload_n 0, 1), (29, .iload_n 1, 1), (30, .if_icmp .gt 7, 3), (33, .iconst 1, 1), (34, .goto 4, 3), (37, .iconst 0, 1), (38, .ireturn, 1)]
theorem tk_X10_isBetween : ∀ q ∈ tb_X10_isBetween, decode cX10_isBetween q.1 = .ok q.2 := by decide +kernel
theorem dc_X10_isBetween (k : Nat) {pc n : Nat} {i : Instr} (h : tb_X10_isBetween[k]? = some (pc, i, n)) : decode cX10_isBetween pc = .ok (i, n) := tk_X10_isBetween (pc, i, n) (List.mem_of_getElem? h)
abbrev mX10_isBetween : e_M := (yX10_isBetween, cX10_isBetween, 3, some (.boolean), [])
theorem ok_X10_isBetween : e_mok mX10_isBetween 3 := ⟨q1767, q119, by decide +kernel, fun sig h => by cases h; rfl⟩
def f_X10_isBetween (a0 : Int32) (a1 : Int32) (a2 : Int32) : Option Int32 :=
  if a2 ≤ a1 then
    if a0 < a2 then
      some 0
    else
      if a1 < a0 then
        some 0
      else
        some 1
  else
    if a0 < a1 then
      some 0
    else
      if a2 < a0 then
        some 0
      else
        some 1
set_option maxHeartbeats 4000000 in
set_option maxRecDepth 100000 in
theorem ct_X10_isBetween {l : Launch} {D : e_D} {B : Heap} {d : Nat} {h : e_H} {a0 : Int32} {a1 : Int32} {a2 : Int32} {v : Int32} (hd : 1 ≤ d) (e : f_X10_isBetween a0 a1 a2 = some v) : e_Run l D B d mX10_isBetween [.int a0, .int a1, .int a2] h (.ok (some (.int v)), h) := by
  refine e_start [some (.int a0), some (.int a1), some (.int a2)] (by decide) rfl rfl rfl (Nat.le_of_ble_eq_true rfl) (fun K hl0 hD0 hB0 hM hd0 hr => ?_)
  subst hl0 hD0 hB0 hd0
  have ho : (k_M K).1.cls = "PegBandsModel" := by rw [hM]; rfl
  have hT : (k_M K).2.2.2.1 = some (.boolean) := by rw [hM]
  refine (show Sx K cX10_isBetween 0 [some (.int a0), some (.int a1), some (.int a2)] [] h (f_X10_isBetween a0 a1 a2) (fun w => w = v) from ?_) _ e rfl
  clear e
  unfold f_X10_isBetween
  refine S_iload_n (dc_X10_isBetween 0 rfl) rfl ?_
  refine S_iload_n (dc_X10_isBetween 1 rfl) rfl ?_
  refine S_icmp_ge 23 (dc_X10_isBetween 2 rfl) rfl (fun c2 => ?_) (fun c2 => ?_)
  · refine S_iload_n (dc_X10_isBetween 13 rfl) rfl ?_
    refine S_iload_n (dc_X10_isBetween 14 rfl) rfl ?_
    refine S_icmp_lt 37 (dc_X10_isBetween 15 rfl) rfl (fun c25 => ?_) (fun c25 => ?_)
    · refine S_iconst_ 0 (dc_X10_isBetween 21 rfl) rfl ?_
      exact S_iret (dc_X10_isBetween 22 rfl) hT rfl (fun q => by cases q; exact hr)
    · refine S_iload_n (dc_X10_isBetween 16 rfl) rfl ?_
      refine S_iload_n (dc_X10_isBetween 17 rfl) rfl ?_
      refine S_icmp_gt 37 (dc_X10_isBetween 18 rfl) rfl (fun c30 => ?_) (fun c30 => ?_)
      · refine S_iconst_ 0 (dc_X10_isBetween 21 rfl) rfl ?_
        exact S_iret (dc_X10_isBetween 22 rfl) hT rfl (fun q => by cases q; exact hr)
      · refine S_iconst_ 1 (dc_X10_isBetween 19 rfl) rfl ?_
        refine S_goto 38 (dc_X10_isBetween 20 rfl) rfl ?_
        exact S_iret (dc_X10_isBetween 22 rfl) hT rfl (fun q => by cases q; exact hr)
  · refine S_iload_n (dc_X10_isBetween 3 rfl) rfl ?_
    refine S_iload_n (dc_X10_isBetween 4 rfl) rfl ?_
    refine S_icmp_lt 19 (dc_X10_isBetween 5 rfl) rfl (fun c7 => ?_) (fun c7 => ?_)
    · refine S_iconst_ 0 (dc_X10_isBetween 11 rfl) rfl ?_
      refine S_goto 38 (dc_X10_isBetween 12 rfl) rfl ?_
      exact S_iret (dc_X10_isBetween 22 rfl) hT rfl (fun q => by cases q; exact hr)
    · refine S_iload_n (dc_X10_isBetween 6 rfl) rfl ?_
      refine S_iload_n (dc_X10_isBetween 7 rfl) rfl ?_
      refine S_icmp_gt 19 (dc_X10_isBetween 8 rfl) rfl (fun c12 => ?_) (fun c12 => ?_)
      · refine S_iconst_ 0 (dc_X10_isBetween 11 rfl) rfl ?_
        refine S_goto 38 (dc_X10_isBetween 12 rfl) rfl ?_
        exact S_iret (dc_X10_isBetween 22 rfl) hT rfl (fun q => by cases q; exact hr)
      · refine S_iconst_ 1 (dc_X10_isBetween 9 rfl) rfl ?_
        refine S_goto 38 (dc_X10_isBetween 10 rfl) rfl ?_
        exact S_iret (dc_X10_isBetween 22 rfl) hT rfl (fun q => by cases q; exact hr)
abbrev cX10_isOnSide : ByteArray := prog_18_method_33_code
def yX10_isOnSide : MethodName := ⟨"PegBandsModel", "isOnSide", "(IIIIII)Z"⟩
def tb_X10_isOnSide : List (Nat × Instr × Nat) := [(0, .iload_n 2, 1), (1, .iload_n 3, 1), (2, .iload 4, 2), (4, .iload 5, 2), (6, .iload_n 0, 1), (7, .iload_n 1, 1), (8, .invokestatic 192, 3), (11, .ifCond .ne 27, 3), (14, .iload_n 0, 1), (15, .iload_n 2, 1), (16, .iload 4, 2), (18, .invokestatic 196, 3), (21, .ifCond .eq 17, 3), (24, .iload_n 1, 1), (25, .iload_n 3, 1), (26, .iload 5, 2), (28, .invokestatic 196, 3), (31, .ifCond .eq 7, 3), (34, .iconst 1, 1), (35, .goto 4, 3), (38, .iconst 0, 1), (39, .ireturn, 1)]
theorem tk_X10_isOnSide : ∀ q ∈ tb_X10_isOnSide, decode cX10_isOnSide q.1 = .ok q.2 := by decide +kernel
theorem dc_X10_isOnSide (k : Nat) {pc n : Nat} {i : Instr} (h : tb_X10_isOnSide[k]? = some (pc, i, n)) : decode cX10_isOnSide pc = .ok (i, n) := tk_X10_isOnSide (pc, i, n) (List.mem_of_getElem? h)
abbrev mX10_isOnSide : e_M := (yX10_isOnSide, cX10_isOnSide, 6, some (.boolean), [])
theorem ok_X10_isOnSide : e_mok mX10_isOnSide 6 := ⟨q1764, q119, by decide +kernel, fun sig h => by cases h; rfl⟩
def f_X10_isOnSide (a0 : Int32) (a1 : Int32) (a2 : Int32) (a3 : Int32) (a4 : Int32) (a5 : Int32) : Option Int32 :=
  Option.bind (f_X10_turn a2 a3 a4 a5 a0 a1) (fun x8 =>
  if x8 = 0 then
    Option.bind (f_X10_isBetween a0 a2 a4) (fun x18 =>
    if x18 = 0 then
      some 0
    else
      Option.bind (f_X10_isBetween a1 a3 a5) (fun x28 =>
      if x28 = 0 then
        some 0
      else
        some 1))
  else
    some 0)
set_option maxHeartbeats 4000000 in
set_option maxRecDepth 100000 in
theorem ct_X10_isOnSide {l : Launch} {D : e_D} {B : Heap} {d : Nat} {h : e_H} {a0 : Int32} {a1 : Int32} {a2 : Int32} {a3 : Int32} {a4 : Int32} {a5 : Int32} {v : Int32} (hd : 3 ≤ d) (e : f_X10_isOnSide a0 a1 a2 a3 a4 a5 = some v) : e_Run l D B d mX10_isOnSide [.int a0, .int a1, .int a2, .int a3, .int a4, .int a5] h (.ok (some (.int v)), h) := by
  refine e_start [some (.int a0), some (.int a1), some (.int a2), some (.int a3), some (.int a4), some (.int a5)] (by decide) rfl rfl rfl (Nat.le_of_ble_eq_true rfl) (fun K hl0 hD0 hB0 hM hd0 hr => ?_)
  subst hl0 hD0 hB0 hd0
  have ho : (k_M K).1.cls = "PegBandsModel" := by rw [hM]; rfl
  have hT : (k_M K).2.2.2.1 = some (.boolean) := by rw [hM]
  refine (show Sx K cX10_isOnSide 0 [some (.int a0), some (.int a1), some (.int a2), some (.int a3), some (.int a4), some (.int a5)] [] h (f_X10_isOnSide a0 a1 a2 a3 a4 a5) (fun w => w = v) from ?_) _ e rfl
  clear e
  unfold f_X10_isOnSide
  refine S_iload_n (dc_X10_isOnSide 0 rfl) rfl ?_
  refine S_iload_n (dc_X10_isOnSide 1 rfl) rfl ?_
  refine S_iload (dc_X10_isOnSide 2 rfl) rfl ?_
  refine S_iload (dc_X10_isOnSide 3 rfl) rfl ?_
  refine S_iload_n (dc_X10_isOnSide 4 rfl) rfl ?_
  refine S_iload_n (dc_X10_isOnSide 5 rfl) rfl ?_
  refine S_roI (d := k_d K - 1) (e_callS (As := [.int a2, .int a3, .int a4, .int a5, .int a0, .int a1]) (rest := []) ok_X10_turn rfl (Nat.le_of_ble_eq_true rfl) (dc_X10_isOnSide 6 rfl) ho q1750 q1751 rfl (Nat.le_of_ble_eq_true rfl)) (by omega) (fun _ e => ct_X10_turn (by omega) e) (fun x8 e8 => ?_)
  refine S_if_ne 38 (dc_X10_isOnSide 7 rfl) rfl (fun c11 => ?_) (fun c11 => ?_)
  · refine S_iconst_ 0 (dc_X10_isOnSide 20 rfl) rfl ?_
    exact S_iret (dc_X10_isOnSide 21 rfl) hT rfl (fun q => by cases q; exact hr)
  · refine S_iload_n (dc_X10_isOnSide 8 rfl) rfl ?_
    refine S_iload_n (dc_X10_isOnSide 9 rfl) rfl ?_
    refine S_iload (dc_X10_isOnSide 10 rfl) rfl ?_
    refine S_roI (d := k_d K - 1) (e_callS (As := [.int a0, .int a2, .int a4]) (rest := []) ok_X10_isBetween rfl (Nat.le_of_ble_eq_true rfl) (dc_X10_isOnSide 11 rfl) ho q1765 q1766 rfl (Nat.le_of_ble_eq_true rfl)) (by omega) (fun _ e => ct_X10_isBetween (by omega) e) (fun x18 e18 => ?_)
    refine S_if_eq 38 (dc_X10_isOnSide 12 rfl) rfl (fun c21 => ?_) (fun c21 => ?_)
    · refine S_iconst_ 0 (dc_X10_isOnSide 20 rfl) rfl ?_
      exact S_iret (dc_X10_isOnSide 21 rfl) hT rfl (fun q => by cases q; exact hr)
    · refine S_iload_n (dc_X10_isOnSide 13 rfl) rfl ?_
      refine S_iload_n (dc_X10_isOnSide 14 rfl) rfl ?_
      refine S_iload (dc_X10_isOnSide 15 rfl) rfl ?_
      refine S_roI (d := k_d K - 1) (e_callS (As := [.int a1, .int a3, .int a5]) (rest := []) ok_X10_isBetween rfl (Nat.le_of_ble_eq_true rfl) (dc_X10_isOnSide 16 rfl) ho q1765 q1766 rfl (Nat.le_of_ble_eq_true rfl)) (by omega) (fun _ e => ct_X10_isBetween (by omega) e) (fun x28 e28 => ?_)
      refine S_if_eq 38 (dc_X10_isOnSide 17 rfl) rfl (fun c31 => ?_) (fun c31 => ?_)
      · refine S_iconst_ 0 (dc_X10_isOnSide 20 rfl) rfl ?_
        exact S_iret (dc_X10_isOnSide 21 rfl) hT rfl (fun q => by cases q; exact hr)
      · refine S_iconst_ 1 (dc_X10_isOnSide 18 rfl) rfl ?_
        refine S_goto 39 (dc_X10_isOnSide 19 rfl) rfl ?_
        exact S_iret (dc_X10_isOnSide 21 rfl) hT rfl (fun q => by cases q; exact hr)
abbrev cX10_meet : ByteArray := prog_18_method_34_code
def yX10_meet : MethodName := ⟨"PegBandsModel", "meet", "(IIIIIIII)I"⟩
def tb_X10_meet : List (Nat × Instr × Nat) := [(0, .iload_n 0, 1), (1, .iload_n 1, 1), (2, .iload_n 2, 1), (3, .iload_n 3, 1), (4, .iload 4, 2), (6, .iload 5, 2), (8, .invokestatic 192, 3), (11, .iload_n 0, 1), (12, .iload_n 1, 1), (13, .iload_n 2, 1), (14, .iload_n 3, 1), (15, .iload 6, 2), (17, .iload 7, 2), (19, .invokestatic 192, 3), (22, .imul, 1), (23, .ifCond .ge 35, 3), (26, .iload 4, 2), (28, .iload 5, 2), (30, .iload 6, 2), (32, .iload 7, 2), (34, .iload_n 0, 1), (35, .iload_n 1, 1), (36, .invokestatic 192, 3), (39, .iload 4, 2), (41, .iload 5, 2), (43, .iload 6, 2), (45, .iload 7, 2), (47, .iload_n 2, 1), (48, .iload_n 3, 1), (49, .invokestatic 192, 3), (52, .imul, 1), (53, .ifCond .ge 5, 3), (56, .iconst 1, 1), (57, .ireturn, 1), (58, .iload 4, 2), (60, .iload 5, 2), (62, .iload_n 0, 1), (63, .iload_n 1, 1), (64, .iload_n 2, 1), (65, .iload_n 3, 1), (66, .invokestatic 199, 3), (69, .ifCond .ne 49, 3), (72, .iload 6, 2), (74, .iload 7, 2), (76, .iload_n 0, 1), (77, .iload_n 1, 1), (78, .iload_n 2, 1), (79, .iload_n 3, 1), (80, .invokestatic 199, 3), (83, .ifCond .ne 35, 3), (86, .iload_n 0, 1), (87, .iload_n 1, 1), (88, .iload 4, 2), (90, .iload 5, 2), (92, .iload 6, 2), (94, .iload 7, 2), (96, .invokestatic 199, 3), (99, .ifCond .ne 19, 3), (102, .iload_n 2, 1), (103, .iload_n 3, 1), (104, .iload 4, 2), (106, .iload 5, 2), (108, .iload 6, 2), (110, .iload 7, 2), (112, .invokestatic 199, 3), (115, .ifCond .eq 7, 3), (118, .iconst 1, 1), (119, .goto 4, 3), (122, .iconst 0, 1), (123, .istore 8, 2), (125, .iload 8, 2), (127, .ifCond .eq 7, 3), (130, .iconst 2, 1), (131, .goto 4, 3), (134, .iconst 0, 1), (135, .ireturn, 1)]
theorem tk_X10_meet : ∀ q ∈ tb_X10_meet, decode cX10_meet q.1 = .ok q.2 := by decide +kernel
theorem dc_X10_meet (k : Nat) {pc n : Nat} {i : Instr} (h : tb_X10_meet[k]? = some (pc, i, n)) : decode cX10_meet pc = .ok (i, n) := tk_X10_meet (pc, i, n) (List.mem_of_getElem? h)
abbrev mX10_meet : e_M := (yX10_meet, cX10_meet, 9, some (.int), [])
theorem ok_X10_meet : e_mok mX10_meet 8 := ⟨q1761, q119, by decide +kernel, fun sig h => by cases h; rfl⟩
def f_X10_meet (a0 : Int32) (a1 : Int32) (a2 : Int32) (a3 : Int32) (a4 : Int32) (a5 : Int32) (a6 : Int32) (a7 : Int32) : Option Int32 :=
  Option.bind (f_X10_turn a0 a1 a2 a3 a4 a5) (fun x8 =>
  Option.bind (f_X10_turn a0 a1 a2 a3 a6 a7) (fun x19 =>
  e_bE (
      if 0 ≤ (x8 * x19) then
        some (.ok ())
      else
        Option.bind (f_X10_turn a4 a5 a6 a7 a0 a1) (fun x36 =>
        Option.bind (f_X10_turn a4 a5 a6 a7 a2 a3) (fun x49 =>
        if 0 ≤ (x36 * x49) then
          some (.ok ())
        else
          some (.error 1)))
    : Option (Except Int32 Unit)) (fun _ =>
  Option.bind (f_X10_isOnSide a4 a5 a0 a1 a2 a3) (fun x66 =>
  Option.bind (
      e_bE (
          if x66 = 0 then
            Option.bind (f_X10_isOnSide a6 a7 a0 a1 a2 a3) (fun x80 =>
            if x80 = 0 then
              Option.bind (f_X10_isOnSide a0 a1 a4 a5 a6 a7) (fun x96 =>
              if x96 = 0 then
                Option.bind (f_X10_isOnSide a2 a3 a4 a5 a6 a7) (fun x112 =>
                if x112 = 0 then
                  some (.error 0)
                else
                  some (.ok ()))
              else
                some (.ok ()))
            else
              some (.ok ()))
          else
            some (.ok ())
        : Option (Except Int32 Unit)) (fun _ =>
      some 1)
    : Option (Int32)) (fun s123_2 =>
  if s123_2 = 0 then
    some 0
  else
    some 2)))))
set_option maxHeartbeats 4000000 in
set_option maxRecDepth 100000 in
theorem ct_X10_meet {l : Launch} {D : e_D} {B : Heap} {d : Nat} {h : e_H} {a0 : Int32} {a1 : Int32} {a2 : Int32} {a3 : Int32} {a4 : Int32} {a5 : Int32} {a6 : Int32} {a7 : Int32} {v : Int32} (hd : 4 ≤ d) (e : f_X10_meet a0 a1 a2 a3 a4 a5 a6 a7 = some v) : e_Run l D B d mX10_meet [.int a0, .int a1, .int a2, .int a3, .int a4, .int a5, .int a6, .int a7] h (.ok (some (.int v)), h) := by
  refine e_start [some (.int a0), some (.int a1), some (.int a2), some (.int a3), some (.int a4), some (.int a5), some (.int a6), some (.int a7), none] (by decide) rfl rfl rfl (Nat.le_of_ble_eq_true rfl) (fun K hl0 hD0 hB0 hM hd0 hr => ?_)
  subst hl0 hD0 hB0 hd0
  have ho : (k_M K).1.cls = "PegBandsModel" := by rw [hM]; rfl
  have hT : (k_M K).2.2.2.1 = some (.int) := by rw [hM]
  refine (show Sx K cX10_meet 0 [some (.int a0), some (.int a1), some (.int a2), some (.int a3), some (.int a4), some (.int a5), some (.int a6), some (.int a7), none] [] h (f_X10_meet a0 a1 a2 a3 a4 a5 a6 a7) (fun w => w = v) from ?_) _ e rfl
  clear e
  unfold f_X10_meet
  refine S_iload_n (dc_X10_meet 0 rfl) rfl ?_
  refine S_iload_n (dc_X10_meet 1 rfl) rfl ?_
  refine S_iload_n (dc_X10_meet 2 rfl) rfl ?_
  refine S_iload_n (dc_X10_meet 3 rfl) rfl ?_
  refine S_iload (dc_X10_meet 4 rfl) rfl ?_
  refine S_iload (dc_X10_meet 5 rfl) rfl ?_
  refine S_roI (d := k_d K - 1) (e_callS (As := [.int a0, .int a1, .int a2, .int a3, .int a4, .int a5]) (rest := []) ok_X10_turn rfl (Nat.le_of_ble_eq_true rfl) (dc_X10_meet 6 rfl) ho q1750 q1751 rfl (Nat.le_of_ble_eq_true rfl)) (by omega) (fun _ e => ct_X10_turn (by omega) e) (fun x8 e8 => ?_)
  refine S_iload_n (dc_X10_meet 7 rfl) rfl ?_
  refine S_iload_n (dc_X10_meet 8 rfl) rfl ?_
  refine S_iload_n (dc_X10_meet 9 rfl) rfl ?_
  refine S_iload_n (dc_X10_meet 10 rfl) rfl ?_
  refine S_iload (dc_X10_meet 11 rfl) rfl ?_
  refine S_iload (dc_X10_meet 12 rfl) rfl ?_
  refine S_roI (d := k_d K - 1) (e_callS (As := [.int a0, .int a1, .int a2, .int a3, .int a6, .int a7]) (rest := [.int x8]) ok_X10_turn rfl (Nat.le_of_ble_eq_true rfl) (dc_X10_meet 13 rfl) ho q1750 q1751 rfl (Nat.le_of_ble_eq_true rfl)) (by omega) (fun _ e => ct_X10_turn (by omega) e) (fun x19 e19 => ?_)
  refine S_imul (dc_X10_meet 14 rfl) ?_
  refine Sx.regKE0 (pc2 := 58) (L2 := [some (.int a0), some (.int a1), some (.int a2), some (.int a3), some (.int a4), some (.int a5), some (.int a6), some (.int a7), none]) (st2 := []) (h2 := h) ?_ (fun Q1 hK1 hE1 => ?_)
  · skip
    refine S_iload (dc_X10_meet 34 rfl) rfl ?_
    refine S_iload (dc_X10_meet 35 rfl) rfl ?_
    refine S_iload_n (dc_X10_meet 36 rfl) rfl ?_
    refine S_iload_n (dc_X10_meet 37 rfl) rfl ?_
    refine S_iload_n (dc_X10_meet 38 rfl) rfl ?_
    refine S_iload_n (dc_X10_meet 39 rfl) rfl ?_
    refine S_roI (d := k_d K - 1) (e_callS (As := [.int a4, .int a5, .int a0, .int a1, .int a2, .int a3]) (rest := []) ok_X10_isOnSide rfl (Nat.le_of_ble_eq_true rfl) (dc_X10_meet 40 rfl) ho q1762 q1763 rfl (Nat.le_of_ble_eq_true rfl)) (by omega) (fun _ e => ct_X10_isOnSide (by omega) e) (fun x66 e66 => ?_)
    refine Sx.regK1 (pc2 := 123) (L2 := fun (s123_2 : Int32) => [none, none, none, none, none, none, none, none, none]) (st2 := fun (s123_2 : Int32) => [.int s123_2]) (h2 := fun (s123_2 : Int32) => h) ?_ (fun Q2 hK2 => ?_)
    · intro s123_2
      show Sx K cX10_meet 123 [none, none, none, none, none, none, none, none, none] [.int s123_2] h _ _
      refine S_istore (L' := [none, none, none, none, none, none, none, none, some (.int s123_2)]) (dc_X10_meet 69 rfl) rfl ?_
      refine S_iload (dc_X10_meet 70 rfl) rfl ?_
      refine S_if_eq 134 (dc_X10_meet 71 rfl) rfl (fun c127 => ?_) (fun c127 => ?_)
      · refine S_iconst_ 0 (dc_X10_meet 74 rfl) rfl ?_
        exact S_iret (dc_X10_meet 75 rfl) hT rfl (fun q => by cases q; exact hr)
      · refine S_iconst_ 2 (dc_X10_meet 72 rfl) rfl ?_
        refine S_goto 135 (dc_X10_meet 73 rfl) rfl ?_
        exact S_iret (dc_X10_meet 75 rfl) hT rfl (fun q => by cases q; exact hr)
    · have hK2 : ∀ (s123_2 : Int32), Sx K cX10_meet 123 [none, none, none, none, none, none, none, none, none] [.int s123_2] h (some s123_2) Q2 := hK2
      refine Sx.regKE0 (pc2 := 118) (L2 := [none, none, none, none, none, none, none, none, none]) (st2 := []) (h2 := h) ?_ (fun Q3 hK3 hE3 => ?_)
      · skip
        refine S_iconst_ 1 (dc_X10_meet 66 rfl) rfl ?_
        refine S_goto 123 (dc_X10_meet 67 rfl) rfl ?_
        exact hK2 1
      · have hK3 : Sx K cX10_meet 118 [none, none, none, none, none, none, none, none, none] [] h (some (.ok ())) Q3 := hK3
        refine S_if_ne 118 (dc_X10_meet 41 rfl) rfl (fun c69 => ?_) (fun c69 => ?_)
        · refine Sx.cut [false, false, false, false, false, false, false, false, true] ?_
          exact hK3
        · refine S_iload (dc_X10_meet 42 rfl) rfl ?_
          refine S_iload (dc_X10_meet 43 rfl) rfl ?_
          refine S_iload_n (dc_X10_meet 44 rfl) rfl ?_
          refine S_iload_n (dc_X10_meet 45 rfl) rfl ?_
          refine S_iload_n (dc_X10_meet 46 rfl) rfl ?_
          refine S_iload_n (dc_X10_meet 47 rfl) rfl ?_
          refine S_roI (d := k_d K - 1) (e_callS (As := [.int a6, .int a7, .int a0, .int a1, .int a2, .int a3]) (rest := []) ok_X10_isOnSide rfl (Nat.le_of_ble_eq_true rfl) (dc_X10_meet 48 rfl) ho q1762 q1763 rfl (Nat.le_of_ble_eq_true rfl)) (by omega) (fun _ e => ct_X10_isOnSide (by omega) e) (fun x80 e80 => ?_)
          refine S_if_ne 118 (dc_X10_meet 49 rfl) rfl (fun c83 => ?_) (fun c83 => ?_)
          · refine Sx.cut [false, false, false, false, false, false, false, false, true] ?_
            exact hK3
          · refine S_iload_n (dc_X10_meet 50 rfl) rfl ?_
            refine S_iload_n (dc_X10_meet 51 rfl) rfl ?_
            refine S_iload (dc_X10_meet 52 rfl) rfl ?_
            refine S_iload (dc_X10_meet 53 rfl) rfl ?_
            refine S_iload (dc_X10_meet 54 rfl) rfl ?_
            refine S_iload (dc_X10_meet 55 rfl) rfl ?_
            refine S_roI (d := k_d K - 1) (e_callS (As := [.int a0, .int a1, .int a4, .int a5, .int a6, .int a7]) (rest := []) ok_X10_isOnSide rfl (Nat.le_of_ble_eq_true rfl) (dc_X10_meet 56 rfl) ho q1762 q1763 rfl (Nat.le_of_ble_eq_true rfl)) (by omega) (fun _ e => ct_X10_isOnSide (by omega) e) (fun x96 e96 => ?_)
            refine S_if_ne 118 (dc_X10_meet 57 rfl) rfl (fun c99 => ?_) (fun c99 => ?_)
            · refine Sx.cut [false, false, false, false, false, false, false, false, true] ?_
              exact hK3
            · refine S_iload_n (dc_X10_meet 58 rfl) rfl ?_
              refine S_iload_n (dc_X10_meet 59 rfl) rfl ?_
              refine S_iload (dc_X10_meet 60 rfl) rfl ?_
              refine S_iload (dc_X10_meet 61 rfl) rfl ?_
              refine S_iload (dc_X10_meet 62 rfl) rfl ?_
              refine S_iload (dc_X10_meet 63 rfl) rfl ?_
              refine S_roI (d := k_d K - 1) (e_callS (As := [.int a2, .int a3, .int a4, .int a5, .int a6, .int a7]) (rest := []) ok_X10_isOnSide rfl (Nat.le_of_ble_eq_true rfl) (dc_X10_meet 64 rfl) ho q1762 q1763 rfl (Nat.le_of_ble_eq_true rfl)) (by omega) (fun _ e => ct_X10_isOnSide (by omega) e) (fun x112 e112 => ?_)
              refine S_if_eq 122 (dc_X10_meet 65 rfl) rfl (fun c115 => ?_) (fun c115 => ?_)
              · refine S_iconst_ 0 (dc_X10_meet 68 rfl) rfl ?_
                refine Sx.cut [false, false, false, false, false, false, false, false, true] ?_
                refine Sx.err hE3 ?_
                exact hK2 0
              · refine Sx.cut [false, false, false, false, false, false, false, false, true] ?_
                exact hK3
  · have hK1 : Sx K cX10_meet 58 [some (.int a0), some (.int a1), some (.int a2), some (.int a3), some (.int a4), some (.int a5), some (.int a6), some (.int a7), none] [] h (some (.ok ())) Q1 := hK1
    refine S_if_ge 58 (dc_X10_meet 15 rfl) rfl (fun c23 => ?_) (fun c23 => ?_)
    · exact hK1
    · refine S_iload (dc_X10_meet 16 rfl) rfl ?_
      refine S_iload (dc_X10_meet 17 rfl) rfl ?_
      refine S_iload (dc_X10_meet 18 rfl) rfl ?_
      refine S_iload (dc_X10_meet 19 rfl) rfl ?_
      refine S_iload_n (dc_X10_meet 20 rfl) rfl ?_
      refine S_iload_n (dc_X10_meet 21 rfl) rfl ?_
      refine S_roI (d := k_d K - 1) (e_callS (As := [.int a4, .int a5, .int a6, .int a7, .int a0, .int a1]) (rest := []) ok_X10_turn rfl (Nat.le_of_ble_eq_true rfl) (dc_X10_meet 22 rfl) ho q1750 q1751 rfl (Nat.le_of_ble_eq_true rfl)) (by omega) (fun _ e => ct_X10_turn (by omega) e) (fun x36 e36 => ?_)
      refine S_iload (dc_X10_meet 23 rfl) rfl ?_
      refine S_iload (dc_X10_meet 24 rfl) rfl ?_
      refine S_iload (dc_X10_meet 25 rfl) rfl ?_
      refine S_iload (dc_X10_meet 26 rfl) rfl ?_
      refine S_iload_n (dc_X10_meet 27 rfl) rfl ?_
      refine S_iload_n (dc_X10_meet 28 rfl) rfl ?_
      refine S_roI (d := k_d K - 1) (e_callS (As := [.int a4, .int a5, .int a6, .int a7, .int a2, .int a3]) (rest := [.int x36]) ok_X10_turn rfl (Nat.le_of_ble_eq_true rfl) (dc_X10_meet 29 rfl) ho q1750 q1751 rfl (Nat.le_of_ble_eq_true rfl)) (by omega) (fun _ e => ct_X10_turn (by omega) e) (fun x49 e49 => ?_)
      refine S_imul (dc_X10_meet 30 rfl) ?_
      refine S_if_ge 58 (dc_X10_meet 31 rfl) rfl (fun c53 => ?_) (fun c53 => ?_)
      · exact hK1
      · refine S_iconst_ 1 (dc_X10_meet 32 rfl) rfl ?_
        refine Sx.err hE1 ?_
        exact S_iret (dc_X10_meet 33 rfl) hT rfl (fun q => by cases q; exact hr)
abbrev cX10_meetSides : ByteArray := prog_18_method_35_code
def yX10_meetSides : MethodName := ⟨"PegBandsModel", "meetSides", "([IIIII)I"⟩
def tb_X10_meetSides : List (Nat × Instr × Nat) := [(0, .iload_n 2, 1), (1, .iconst 1, 1), (2, .iadd, 1), (3, .aload_n 0, 1), (4, .iload_n 1, 1), (5, .invokestatic 203, 3), (8, .irem, 1), (9, .istore 5, 2), (11, .iload 4, 2), (13, .iconst 1, 1), (14, .iadd, 1), (15, .aload_n 0, 1), (16, .iload_n 3, 1), (17, .invokestatic 203, 3), (20, .irem, 1), (21, .istore 6, 2), (23, .aload_n 0, 1), (24, .iload_n 1, 1), (25, .iload_n 2, 1), (26, .invokestatic 207, 3), (29, .aload_n 0, 1), (30, .iload_n 1, 1), (31, .iload_n 2, 1), (32, .invokestatic 211, 3), (35, .aload_n 0, 1), (36, .iload_n 1, 1), (37, .iload 5, 2), (39, .invokestatic 207, 3), (42, .aload_n 0, 1), (43, .iload_n 1, 1), (44, .iload 5, 2), (46, .invokestatic 211, 3), (49, .aload_n 0, 1), (50, .iload_n 3, 1), (51, .iload 4, 2), (53, .invokestatic 207, 3), (56, .aload_n 0, 1), (57, .iload_n 3, 1), (58, .iload 4, 2), (60, .invokestatic 211, 3), (63, .aload_n 0, 1), (64, .iload_n 3, 1), (65, .iload 6, 2), (67, .invokestatic 207, 3), (70, .aload_n 0, 1), (71, .iload_n 3, 1), (72, .iload 6, 2), (74, .invokestatic 211, 3), (77, .invokestatic 214, 3), (80, .ireturn, 1)]
theorem tk_X10_meetSides : ∀ q ∈ tb_X10_meetSides, decode cX10_meetSides q.1 = .ok q.2 := by decide +kernel
theorem dc_X10_meetSides (k : Nat) {pc n : Nat} {i : Instr} (h : tb_X10_meetSides[k]? = some (pc, i, n)) : decode cX10_meetSides pc = .ok (i, n) := tk_X10_meetSides (pc, i, n) (List.mem_of_getElem? h)
abbrev mX10_meetSides : e_M := (yX10_meetSides, cX10_meetSides, 7, some (.int), [])
theorem ok_X10_meetSides : e_mok mX10_meetSides 5 := ⟨q1758, q119, by decide +kernel, fun sig h => by cases h; rfl⟩
def f_X10_meetSides (h : e_H) (a0 : Nat) (a1 : Int32) (a2 : Int32) (a3 : Int32) (a4 : Int32) : Option Int32 :=
  Option.bind (f_X10_cornersOf h a0 a1) (fun x5 =>
  if x5 = 0 then none else
  Option.bind (some ((a2 + 1) - (a2 + 1) / x5 * x5)) (fun x9 =>
  Option.bind (f_X10_cornersOf h a0 a3) (fun x17 =>
  if x17 = 0 then none else
  Option.bind (some ((a4 + 1) - (a4 + 1) / x17 * x17)) (fun x21 =>
  Option.bind (f_X10_xOf h a0 a1 a2) (fun x26 =>
  Option.bind (f_X10_yOf h a0 a1 a2) (fun x32 =>
  Option.bind (f_X10_xOf h a0 a1 x9) (fun x39 =>
  Option.bind (f_X10_yOf h a0 a1 x9) (fun x46 =>
  Option.bind (f_X10_xOf h a0 a3 a4) (fun x53 =>
  Option.bind (f_X10_yOf h a0 a3 a4) (fun x60 =>
  Option.bind (f_X10_xOf h a0 a3 x21) (fun x67 =>
  Option.bind (f_X10_yOf h a0 a3 x21) (fun x74 =>
  Option.bind (f_X10_meet x26 x32 x39 x46 x53 x60 x67 x74) (fun x77 =>
  some x77)))))))))))))
set_option maxHeartbeats 4000000 in
set_option maxRecDepth 100000 in
theorem ct_X10_meetSides {l : Launch} {D : e_D} {B : Heap} {d : Nat} {h : e_H} {a0 : Nat} {a1 : Int32} {a2 : Int32} {a3 : Int32} {a4 : Int32} {v : Int32} (hd : 5 ≤ d) (e : f_X10_meetSides h a0 a1 a2 a3 a4 = some v) : e_Run l D B d mX10_meetSides [.ref a0, .int a1, .int a2, .int a3, .int a4] h (.ok (some (.int v)), h) := by
  refine e_start [some (.ref a0), some (.int a1), some (.int a2), some (.int a3), some (.int a4), none, none] (by decide) rfl rfl rfl (Nat.le_of_ble_eq_true rfl) (fun K hl0 hD0 hB0 hM hd0 hr => ?_)
  subst hl0 hD0 hB0 hd0
  have ho : (k_M K).1.cls = "PegBandsModel" := by rw [hM]; rfl
  have hT : (k_M K).2.2.2.1 = some (.int) := by rw [hM]
  refine (show Sx K cX10_meetSides 0 [some (.ref a0), some (.int a1), some (.int a2), some (.int a3), some (.int a4), none, none] [] h (f_X10_meetSides h a0 a1 a2 a3 a4) (fun w => w = v) from ?_) _ e rfl
  clear e
  unfold f_X10_meetSides
  refine S_iload_n (dc_X10_meetSides 0 rfl) rfl ?_
  refine S_iconst_ 1 (dc_X10_meetSides 1 rfl) rfl ?_
  refine S_iadd (dc_X10_meetSides 2 rfl) ?_
  refine S_aload_n (dc_X10_meetSides 3 rfl) rfl ?_
  refine S_iload_n (dc_X10_meetSides 4 rfl) rfl ?_
  refine S_roI (d := k_d K - 1) (e_callS (As := [.ref a0, .int a1]) (rest := [.int (a2 + 1)]) ok_X10_cornersOf rfl (Nat.le_of_ble_eq_true rfl) (dc_X10_meetSides 5 rfl) ho q1732 q1733 rfl (Nat.le_of_ble_eq_true rfl)) (by omega) (fun _ e => ct_X10_cornersOf (by omega) e) (fun x5 e5 => ?_)
  refine Sx.ncond (fun c8 => ?_)
  refine S_irem (dc_X10_meetSides 6 rfl) c8 ?_
  refine Sx.nameI (fun x9 n9 => ?_)
  refine S_istore (L' := [some (.ref a0), some (.int a1), some (.int a2), some (.int a3), some (.int a4), some (.int x9), none]) (dc_X10_meetSides 7 rfl) rfl ?_
  refine S_iload (dc_X10_meetSides 8 rfl) rfl ?_
  refine S_iconst_ 1 (dc_X10_meetSides 9 rfl) rfl ?_
  refine S_iadd (dc_X10_meetSides 10 rfl) ?_
  refine S_aload_n (dc_X10_meetSides 11 rfl) rfl ?_
  refine S_iload_n (dc_X10_meetSides 12 rfl) rfl ?_
  refine S_roI (d := k_d K - 1) (e_callS (As := [.ref a0, .int a3]) (rest := [.int (a4 + 1)]) ok_X10_cornersOf rfl (Nat.le_of_ble_eq_true rfl) (dc_X10_meetSides 13 rfl) ho q1732 q1733 rfl (Nat.le_of_ble_eq_true rfl)) (by omega) (fun _ e => ct_X10_cornersOf (by omega) e) (fun x17 e17 => ?_)
  refine Sx.ncond (fun c20 => ?_)
  refine S_irem (dc_X10_meetSides 14 rfl) c20 ?_
  refine Sx.nameI (fun x21 n21 => ?_)
  refine S_istore (L' := [some (.ref a0), some (.int a1), some (.int a2), some (.int a3), some (.int a4), some (.int x9), some (.int x21)]) (dc_X10_meetSides 15 rfl) rfl ?_
  refine S_aload_n (dc_X10_meetSides 16 rfl) rfl ?_
  refine S_iload_n (dc_X10_meetSides 17 rfl) rfl ?_
  refine S_iload_n (dc_X10_meetSides 18 rfl) rfl ?_
  refine S_roI (d := k_d K - 1) (e_callS (As := [.ref a0, .int a1, .int a2]) (rest := []) ok_X10_xOf rfl (Nat.le_of_ble_eq_true rfl) (dc_X10_meetSides 19 rfl) ho q1735 q1736 rfl (Nat.le_of_ble_eq_true rfl)) (by omega) (fun _ e => ct_X10_xOf (by omega) e) (fun x26 e26 => ?_)
  refine S_aload_n (dc_X10_meetSides 20 rfl) rfl ?_
  refine S_iload_n (dc_X10_meetSides 21 rfl) rfl ?_
  refine S_iload_n (dc_X10_meetSides 22 rfl) rfl ?_
  refine S_roI (d := k_d K - 1) (e_callS (As := [.ref a0, .int a1, .int a2]) (rest := [.int x26]) ok_X10_yOf rfl (Nat.le_of_ble_eq_true rfl) (dc_X10_meetSides 23 rfl) ho q1738 q1739 rfl (Nat.le_of_ble_eq_true rfl)) (by omega) (fun _ e => ct_X10_yOf (by omega) e) (fun x32 e32 => ?_)
  refine S_aload_n (dc_X10_meetSides 24 rfl) rfl ?_
  refine S_iload_n (dc_X10_meetSides 25 rfl) rfl ?_
  refine S_iload (dc_X10_meetSides 26 rfl) rfl ?_
  refine S_roI (d := k_d K - 1) (e_callS (As := [.ref a0, .int a1, .int x9]) (rest := [.int x32, .int x26]) ok_X10_xOf rfl (Nat.le_of_ble_eq_true rfl) (dc_X10_meetSides 27 rfl) ho q1735 q1736 rfl (Nat.le_of_ble_eq_true rfl)) (by omega) (fun _ e => ct_X10_xOf (by omega) e) (fun x39 e39 => ?_)
  refine S_aload_n (dc_X10_meetSides 28 rfl) rfl ?_
  refine S_iload_n (dc_X10_meetSides 29 rfl) rfl ?_
  refine S_iload (dc_X10_meetSides 30 rfl) rfl ?_
  refine S_roI (d := k_d K - 1) (e_callS (As := [.ref a0, .int a1, .int x9]) (rest := [.int x39, .int x32, .int x26]) ok_X10_yOf rfl (Nat.le_of_ble_eq_true rfl) (dc_X10_meetSides 31 rfl) ho q1738 q1739 rfl (Nat.le_of_ble_eq_true rfl)) (by omega) (fun _ e => ct_X10_yOf (by omega) e) (fun x46 e46 => ?_)
  refine S_aload_n (dc_X10_meetSides 32 rfl) rfl ?_
  refine S_iload_n (dc_X10_meetSides 33 rfl) rfl ?_
  refine S_iload (dc_X10_meetSides 34 rfl) rfl ?_
  refine S_roI (d := k_d K - 1) (e_callS (As := [.ref a0, .int a3, .int a4]) (rest := [.int x46, .int x39, .int x32, .int x26]) ok_X10_xOf rfl (Nat.le_of_ble_eq_true rfl) (dc_X10_meetSides 35 rfl) ho q1735 q1736 rfl (Nat.le_of_ble_eq_true rfl)) (by omega) (fun _ e => ct_X10_xOf (by omega) e) (fun x53 e53 => ?_)
  refine S_aload_n (dc_X10_meetSides 36 rfl) rfl ?_
  refine S_iload_n (dc_X10_meetSides 37 rfl) rfl ?_
  refine S_iload (dc_X10_meetSides 38 rfl) rfl ?_
  refine S_roI (d := k_d K - 1) (e_callS (As := [.ref a0, .int a3, .int a4]) (rest := [.int x53, .int x46, .int x39, .int x32, .int x26]) ok_X10_yOf rfl (Nat.le_of_ble_eq_true rfl) (dc_X10_meetSides 39 rfl) ho q1738 q1739 rfl (Nat.le_of_ble_eq_true rfl)) (by omega) (fun _ e => ct_X10_yOf (by omega) e) (fun x60 e60 => ?_)
  refine S_aload_n (dc_X10_meetSides 40 rfl) rfl ?_
  refine S_iload_n (dc_X10_meetSides 41 rfl) rfl ?_
  refine S_iload (dc_X10_meetSides 42 rfl) rfl ?_
  refine S_roI (d := k_d K - 1) (e_callS (As := [.ref a0, .int a3, .int x21]) (rest := [.int x60, .int x53, .int x46, .int x39, .int x32, .int x26]) ok_X10_xOf rfl (Nat.le_of_ble_eq_true rfl) (dc_X10_meetSides 43 rfl) ho q1735 q1736 rfl (Nat.le_of_ble_eq_true rfl)) (by omega) (fun _ e => ct_X10_xOf (by omega) e) (fun x67 e67 => ?_)
  refine S_aload_n (dc_X10_meetSides 44 rfl) rfl ?_
  refine S_iload_n (dc_X10_meetSides 45 rfl) rfl ?_
  refine S_iload (dc_X10_meetSides 46 rfl) rfl ?_
  refine S_roI (d := k_d K - 1) (e_callS (As := [.ref a0, .int a3, .int x21]) (rest := [.int x67, .int x60, .int x53, .int x46, .int x39, .int x32, .int x26]) ok_X10_yOf rfl (Nat.le_of_ble_eq_true rfl) (dc_X10_meetSides 47 rfl) ho q1738 q1739 rfl (Nat.le_of_ble_eq_true rfl)) (by omega) (fun _ e => ct_X10_yOf (by omega) e) (fun x74 e74 => ?_)
  refine S_roI (d := k_d K - 1) (e_callS (As := [.int x26, .int x32, .int x39, .int x46, .int x53, .int x60, .int x67, .int x74]) (rest := []) ok_X10_meet rfl (Nat.le_of_ble_eq_true rfl) (dc_X10_meetSides 48 rfl) ho q1759 q1760 rfl (Nat.le_of_ble_eq_true rfl)) (by omega) (fun _ e => ct_X10_meet (by omega) e) (fun x77 e77 => ?_)
  exact S_iret (dc_X10_meetSides 49 rfl) hT rfl (fun q => by cases q; exact hr)
