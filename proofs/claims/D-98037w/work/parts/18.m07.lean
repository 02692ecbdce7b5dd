/-! printed by gen/gen.py -/
set_option maxRecDepth 100000
abbrev cX10_rim : ByteArray := prog_18_method_73_code
def yX10_rim : MethodName := ⟨"PegBandsModel", "rim", "(II)I"⟩
def tb_X10_rim : List (Nat × Instr × Nat) := [(0, .aload_n 0, 1), (1, .iconst 0, 1), (2, .putfield 94, 3), (5, .aload_n 0, 1), (6, .iload_n 1, 1), (7, .invokevirtual 304, 3), (10, .ifCond .eq 12, 3), (13, .iload_n 2, 1), (14, .iconst 0, 1), (15, .iconst 3, 1), (16, .invokestatic 168, 3), (19, .ifCond .ne 5, 3), (22, .iconst (-1), 1), (23, .ireturn, 1), (24, .bipush 99, 2), (26, .istore_n 3, 1), (27, .bipush 99, 2), (29, .istore 4, 2), (31, .iconst 0, 1), (32, .istore 5, 2), (34, .iconst 0, 1), (35, .istore 6, 2), (37, .iconst 0, 1), (38, .istore 7, 2), (40, .iload 7, 2), (42, .aload_n 0, 1), (43, .iload_n 1, 1), (44, .invokevirtual 279, 3), (47, .if_icmp .ge 110, 3), (50, .aload_n 0, 1), (51, .iload_n 1, 1), (52, .iload 7, 2), (54, .invokevirtual 285, 3), (57, .iload_n 3, 1), (58, .if_icmp .ge 13, 3), (61, .aload_n 0, 1), (62, .iload_n 1, 1), (63, .iload 7, 2), (65, .invokevirtual 285, 3), (68, .goto 4, 3), (71, .iload_n 3, 1), (72, .istore_n 3, 1), (73, .aload_n 0, 1), (74, .iload_n 1, 1), (75, .iload 7, 2), (77, .invokevirtual 289, 3), (80, .iload 4, 2), (82, .if_icmp .ge 13, 3), (85, .aload_n 0, 1), (86, .iload_n 1, 1), (87, .iload 7, 2), (89, .invokevirtual 289, 3), (92, .goto 5, 3), (95, .iload 4, 2), (97, .istore 4, 2), (99, .aload_n 0, 1), (100, .iload_n 1, 1), (101, .iload 7, 2), (103, .invokevirtual 285, 3), (106, .iload 5, 2), (108, .if_icmp .le 13, 3), (111, .aload_n 0, 1), (112, .iload_n 1, 1), (113, .iload 7, 2), (115, .invokevirtual 285, 3), (118, .goto 5, 3), (121, .iload 5, 2), (123, .istore 5, 2), (125, .aload_n 0, 1), (126, .iload_n 1, 1), (127, .iload 7, 2), (129, .invokevirtual 289, 3), (132, .iload 6, 2), (134, .if_icmp .le 13, 3), (137, .aload_n 0, 1), (138, .iload_n 1, 1), (139, .iload 7, 2), (141, .invokevirtual 289, 3), (144, .goto 5, 3), (147, .iload 6, 2), (149, .istore 6, 2), (151, .iinc 7 1, 3), (154, .goto (-114), 3), (157, .iload_n 2, 1), (158, .ifCond .ne 7, 3), (161, .iload_n 3, 1), (162, .goto 30, 3), (165, .iload_n 2, 1), (166, .iconst 1, 1), (167, .if_icmp .ne 8, 3), (170, .iload 4, 2), (172, .goto 20, 3), (175, .iload_n 2, 1), (176, .iconst 2, 1), (177, .if_icmp .ne 10, 3), (180, .iload 5, 2), (182, .iload_n 3, 1), (183, .isub, 1), (184, .goto 8, 3), (187, .iload 6, 2), (189, .iload 4, 2), (191, .isub, 1), (192, .ireturn, 1)]
theorem tk_X10_rim : ∀ q ∈ tb_X10_rim, decode cX10_rim q.1 = .ok q.2 := by decide +kernel
theorem dc_X10_rim (k : Nat) {pc n : Nat} {i : Instr} (h : tb_X10_rim[k]? = some (pc, i, n)) : decode cX10_rim pc = .ok (i, n) := tk_X10_rim (pc, i, n) (List.mem_of_getElem? h)
abbrev mX10_rim : e_M := (yX10_rim, cX10_rim, 8, some (.int), [])
theorem ok_X10_rim : e_mok mX10_rim 2 := ⟨q1888, q119, by decide +kernel, fun sig h => by cases h; rfl⟩
def lp_X10_rim_40 (F : Nat) (h2 : e_H) (a0 : Nat) (a1 : Int32) : Nat → Int32 → Int32 → Int32 → Int32 → Int32 → Option ((Int32 × Int32 × Int32 × Int32))
  | 0, _, _, _, _, _ => none
  | n + 1, x3_40, x4_40, x5_40, x6_40, x7_40 =>
    Option.bind (f_X10_corners h2 a0 a1) (fun x44 =>
    if x44 ≤ x7_40 then
      some (x3_40, x4_40, x5_40, x6_40)
    else
      Option.bind (f_X10_x h2 a0 a1 x7_40) (fun x54 =>
      Option.bind (
          if x3_40 ≤ x54 then
            some x3_40
          else
            Option.bind (f_X10_x h2 a0 a1 x7_40) (fun x65 =>
            some x65)
        : Option (Int32)) (fun s72_2 =>
      Option.bind (f_X10_y h2 a0 a1 x7_40) (fun x77 =>
      Option.bind (
          if x4_40 ≤ x77 then
            some x4_40
          else
            Option.bind (f_X10_y h2 a0 a1 x7_40) (fun x89 =>
            some x89)
        : Option (Int32)) (fun s97_3 =>
      Option.bind (f_X10_x h2 a0 a1 x7_40) (fun x103 =>
      Option.bind (
          if x103 ≤ x5_40 then
            some x5_40
          else
            Option.bind (f_X10_x h2 a0 a1 x7_40) (fun x115 =>
            some x115)
        : Option (Int32)) (fun s123_4 =>
      Option.bind (f_X10_y h2 a0 a1 x7_40) (fun x129 =>
      Option.bind (
          if x129 ≤ x6_40 then
            some x6_40
          else
            Option.bind (f_X10_y h2 a0 a1 x7_40) (fun x141 =>
            some x141)
        : Option (Int32)) (fun s149_5 =>
      Option.bind (some (x7_40 + 1)) (fun x151 =>
      lp_X10_rim_40 F h2 a0 a1 n s72_2 s97_3 s123_4 s149_5 x151))))))))))
def f_X10_rim (F : Nat) (h : e_H) (a0 : Nat) (a1 : Int32) (a2 : Int32) : Option (Int32 × e_H) :=
  Option.bind (e_gI h a0 8 0 0) (fun h2 =>
  Option.bind (e_is h2 a0 8) (fun _ =>
  Option.bind (f_X10_isBand h2 a0 a1) (fun x7 =>
  if x7 = 0 then
    some ((-1), h2)
  else
    Option.bind (f_X10_isIn a2 0 3) (fun x16 =>
    if x16 = 0 then
      some ((-1), h2)
    else
      Option.bind (
          lp_X10_rim_40 F h2 a0 a1 F 99 99 0 0 0
        : Option ((Int32 × Int32 × Int32 × Int32))) (e_u4 (fun x3_157_1 x4_157_1 x5_157_1 x6_157_1 =>
      if a2 = 0 then
        some (x3_157_1, h2)
      else
        if a2 = 1 then
          some (x4_157_1, h2)
        else
          if a2 = 2 then
            some ((x5_157_1 - x3_157_1), h2)
          else
            some ((x6_157_1 - x4_157_1), h2)))))))
set_option maxHeartbeats 4000000 in
set_option maxRecDepth 100000 in
theorem ct_X10_rim {l : Launch} {D : e_D} {B : Heap} {F : Nat} {d : Nat} {h : e_H} {a0 : Nat} {a1 : Int32} {a2 : Int32} {v : Int32} {h1 : e_H} (hd : 4 ≤ d) (e : f_X10_rim F h a0 a1 a2 = some (v, h1)) : e_Run l D B d mX10_rim [.ref a0, .int a1, .int a2] h (.ok (some (.int v)), h1) := by
  refine e_start [some (.ref a0), some (.int a1), some (.int a2), none, none, none, none, none] (by decide) rfl rfl rfl (Nat.le_of_ble_eq_true rfl) (fun K hl0 hD0 hB0 hM hd0 hr => ?_)
  subst hl0 hD0 hB0 hd0
  have ho : (k_M K).1.cls = "PegBandsModel" := by rw [hM]; rfl
  have hT : (k_M K).2.2.2.1 = some (.int) := by rw [hM]
  refine (show Sx K cX10_rim 0 [some (.ref a0), some (.int a1), some (.int a2), none, none, none, none, none] [] h (f_X10_rim F h a0 a1 a2) (fun w => w = (v, h1)) from ?_) _ e rfl
  clear e
  unfold f_X10_rim
  refine S_aload_n (dc_X10_rim 0 rfl) rfl ?_
  refine S_iconst_ 0 (dc_X10_rim 1 rfl) rfl ?_
  refine S_putI (dc_X10_rim 2 rfl) ho fl_X10_94_8_0 (fun _ _ => rfl) (Or.inl rfl) rfl rfl (fun h2 e2 => ?_)
  refine S_aload_n (dc_X10_rim 3 rfl) rfl ?_
  refine S_iload_n (dc_X10_rim 4 rfl) rfl ?_
  refine Sx.ask (fun _ i7 => ?_)
  refine S_roI (d := k_d K - 1) (e_callV (b := a0) (As := [.int a1]) (rest := []) ok_X10_isBand rfl (Nat.le_of_ble_eq_true rfl) (dc_X10_rim 5 rfl) ho q1791 q1793 (show e_cl[8]? = some (RX10, TX10, 51) from rfl) (e_sel.of qs52) (e_is_of i7) rfl (Nat.le_of_ble_eq_true rfl)) (by omega) (fun _ e => ct_X10_isBand (by omega) e) (fun x7 e7 => ?_)
  refine S_if_eq 22 (dc_X10_rim 6 rfl) rfl (fun c10 => ?_) (fun c10 => ?_)
  · refine S_iconst_ (-1) (dc_X10_rim 12 rfl) rfl ?_
    exact S_iret (dc_X10_rim 13 rfl) hT rfl (e_rqI hr)
  · refine S_iload_n (dc_X10_rim 7 rfl) rfl ?_
    refine S_iconst_ 0 (dc_X10_rim 8 rfl) rfl ?_
    refine S_iconst_ 3 (dc_X10_rim 9 rfl) rfl ?_
    refine S_roI (d := k_d K - 1) (e_callS (As := [.int a2, .int 0, .int 3]) (rest := []) ok_X10_isIn rfl (Nat.le_of_ble_eq_true rfl) (dc_X10_rim 10 rfl) ho q1699 q1700 rfl (Nat.le_of_ble_eq_true rfl)) (by omega) (fun _ e => ct_X10_isIn (by omega) e) (fun x16 e16 => ?_)
    refine S_if_ne 24 (dc_X10_rim 11 rfl) rfl (fun c19 => ?_) (fun c19 => ?_)
    · refine S_bipush_ 99 (dc_X10_rim 14 rfl) rfl ?_
      refine S_istore_n (L' := [some (.ref a0), some (.int a1), some (.int a2), some (.int 99), none, none, none, none]) (dc_X10_rim 15 rfl) rfl ?_
      refine S_bipush_ 99 (dc_X10_rim 16 rfl) rfl ?_
      refine S_istore (L' := [some (.ref a0), some (.int a1), some (.int a2), some (.int 99), some (.int 99), none, none, none]) (dc_X10_rim 17 rfl) rfl ?_
      refine S_iconst_ 0 (dc_X10_rim 18 rfl) rfl ?_
      refine S_istore (L' := [some (.ref a0), some (.int a1), some (.int a2), some (.int 99), some (.int 99), some (.int 0), none, none]) (dc_X10_rim 19 rfl) rfl ?_
      refine S_iconst_ 0 (dc_X10_rim 20 rfl) rfl ?_
      refine S_istore (L' := [some (.ref a0), some (.int a1), some (.int a2), some (.int 99), some (.int 99), some (.int 0), some (.int 0), none]) (dc_X10_rim 21 rfl) rfl ?_
      refine S_iconst_ 0 (dc_X10_rim 22 rfl) rfl ?_
      refine S_istore (L' := [some (.ref a0), some (.int a1), some (.int a2), some (.int 99), some (.int 99), some (.int 0), some (.int 0), some (.int 0)]) (dc_X10_rim 23 rfl) rfl ?_
      refine Sx.regK4 (pc2 := 157) (L2 := fun (x3_157_1 : Int32) (x4_157_1 : Int32) (x5_157_1 : Int32) (x6_157_1 : Int32) => [none, none, some (.int a2), some (.int x3_157_1), some (.int x4_157_1), some (.int x5_157_1), some (.int x6_157_1), none]) (st2 := fun (x3_157_1 : Int32) (x4_157_1 : Int32) (x5_157_1 : Int32) (x6_157_1 : Int32) => []) (h2 := fun (x3_157_1 : Int32) (x4_157_1 : Int32) (x5_157_1 : Int32) (x6_157_1 : Int32) => h2) ?_ (fun Q1 hK1 => ?_)
      · intro x3_157_1 x4_157_1 x5_157_1 x6_157_1
        show Sx K cX10_rim 157 [none, none, some (.int a2), some (.int x3_157_1), some (.int x4_157_1), some (.int x5_157_1), some (.int x6_157_1), none] [] h2 _ _
        refine S_iload_n (dc_X10_rim 83 rfl) rfl ?_
        refine S_if_ne 165 (dc_X10_rim 84 rfl) rfl (fun c158 => ?_) (fun c158 => ?_)
        · refine S_iload_n (dc_X10_rim 87 rfl) rfl ?_
          refine S_iconst_ 1 (dc_X10_rim 88 rfl) rfl ?_
          refine S_icmp_ne 175 (dc_X10_rim 89 rfl) rfl (fun c167 => ?_) (fun c167 => ?_)
          · refine S_iload_n (dc_X10_rim 92 rfl) rfl ?_
            refine S_iconst_ 2 (dc_X10_rim 93 rfl) rfl ?_
            refine S_icmp_ne 187 (dc_X10_rim 94 rfl) rfl (fun c177 => ?_) (fun c177 => ?_)
            · refine S_iload (dc_X10_rim 99 rfl) rfl ?_
              refine S_iload (dc_X10_rim 100 rfl) rfl ?_
              refine S_isub (dc_X10_rim 101 rfl) ?_
              exact S_iret (dc_X10_rim 102 rfl) hT rfl (e_rqI hr)
            · refine S_iload (dc_X10_rim 95 rfl) rfl ?_
              refine S_iload_n (dc_X10_rim 96 rfl) rfl ?_
              refine S_isub (dc_X10_rim 97 rfl) ?_
              refine S_goto 192 (dc_X10_rim 98 rfl) rfl ?_
              exact S_iret (dc_X10_rim 102 rfl) hT rfl (e_rqI hr)
          · refine S_iload (dc_X10_rim 90 rfl) rfl ?_
            refine S_goto 192 (dc_X10_rim 91 rfl) rfl ?_
            exact S_iret (dc_X10_rim 102 rfl) hT rfl (e_rqI hr)
        · refine S_iload_n (dc_X10_rim 85 rfl) rfl ?_
          refine S_goto 192 (dc_X10_rim 86 rfl) rfl ?_
          exact S_iret (dc_X10_rim 102 rfl) hT rfl (e_rqI hr)
      · have hK1 : ∀ (x3_157_1 : Int32) (x4_157_1 : Int32) (x5_157_1 : Int32) (x6_157_1 : Int32), Sx K cX10_rim 157 [none, none, some (.int a2), some (.int x3_157_1), some (.int x4_157_1), some (.int x5_157_1), some (.int x6_157_1), none] [] h2 (some (x3_157_1, x4_157_1, x5_157_1, x6_157_1)) Q1 := hK1
        have ih1 : ∀ (n : Nat) (x3_40 : Int32) (x4_40 : Int32) (x5_40 : Int32) (x6_40 : Int32) (x7_40 : Int32), Sx K cX10_rim 40 [some (.ref a0), some (.int a1), some (.int a2), some (.int x3_40), some (.int x4_40), some (.int x5_40), some (.int x6_40), some (.int x7_40)] [] h2 (lp_X10_rim_40 F h2 a0 a1 n x3_40 x4_40 x5_40 x6_40 x7_40) Q1 := by
          intro n
          induction n with
          | zero => intro x3_40 x4_40 x5_40 x6_40 x7_40; exact Sx.none
          | succ n ih1 =>
            intro x3_40 x4_40 x5_40 x6_40 x7_40
            rw [lp_X10_rim_40.eq_2]
            refine S_iload (dc_X10_rim 24 rfl) rfl ?_
            refine S_aload_n (dc_X10_rim 25 rfl) rfl ?_
            refine S_iload_n (dc_X10_rim 26 rfl) rfl ?_
            refine S_roI (d := k_d K - 1) (e_callV (b := a0) (As := [.int a1]) (rest := [.int x7_40]) ok_X10_corners rfl (Nat.le_of_ble_eq_true rfl) (dc_X10_rim 27 rfl) ho q1803 q1805 (show e_cl[8]? = some (RX10, TX10, 51) from rfl) (e_sel.of qs55) (e_is_of i7) rfl (Nat.le_of_ble_eq_true rfl)) (by omega) (fun _ e => ct_X10_corners (by omega) e) (fun x44 e44 => ?_)
            refine S_icmp_ge 157 (dc_X10_rim 28 rfl) rfl (fun c47 => ?_) (fun c47 => ?_)
            · refine Sx.cut [false, false, true, true, true, true, true, false] ?_
              exact hK1 x3_40 x4_40 x5_40 x6_40
            · refine S_aload_n (dc_X10_rim 29 rfl) rfl ?_
              refine S_iload_n (dc_X10_rim 30 rfl) rfl ?_
              refine S_iload (dc_X10_rim 31 rfl) rfl ?_
              refine S_roI (d := k_d K - 1) (e_callV (b := a0) (As := [.int a1, .int x7_40]) (rest := []) ok_X10_x rfl (Nat.le_of_ble_eq_true rfl) (dc_X10_rim 32 rfl) ho q1815 q1817 (show e_cl[8]? = some (RX10, TX10, 51) from rfl) (e_sel.of qs58) (e_is_of i7) rfl (Nat.le_of_ble_eq_true rfl)) (by omega) (fun _ e => ct_X10_x (by omega) e) (fun x54 e54 => ?_)
              refine S_iload_n (dc_X10_rim 33 rfl) rfl ?_
              refine Sx.regK1 (pc2 := 72) (L2 := fun (s72_2 : Int32) => [some (.ref a0), some (.int a1), some (.int a2), none, some (.int x4_40), some (.int x5_40), some (.int x6_40), some (.int x7_40)]) (st2 := fun (s72_2 : Int32) => [.int s72_2]) (h2 := fun (s72_2 : Int32) => h2) ?_ (fun Q2 hK2 => ?_)
              · intro s72_2
                show Sx K cX10_rim 72 [some (.ref a0), some (.int a1), some (.int a2), none, some (.int x4_40), some (.int x5_40), some (.int x6_40), some (.int x7_40)] [.int s72_2] h2 _ _
                refine S_istore_n (L' := [some (.ref a0), some (.int a1), some (.int a2), some (.int s72_2), some (.int x4_40), some (.int x5_40), some (.int x6_40), some (.int x7_40)]) (dc_X10_rim 41 rfl) rfl ?_
                refine S_aload_n (dc_X10_rim 42 rfl) rfl ?_
                refine S_iload_n (dc_X10_rim 43 rfl) rfl ?_
                refine S_iload (dc_X10_rim 44 rfl) rfl ?_
                refine S_roI (d := k_d K - 1) (e_callV (b := a0) (As := [.int a1, .int x7_40]) (rest := []) ok_X10_y rfl (Nat.le_of_ble_eq_true rfl) (dc_X10_rim 45 rfl) ho q1819 q1821 (show e_cl[8]? = some (RX10, TX10, 51) from rfl) (e_sel.of qs59) (e_is_of i7) rfl (Nat.le_of_ble_eq_true rfl)) (by omega) (fun _ e => ct_X10_y (by omega) e) (fun x77 e77 => ?_)
                refine S_iload (dc_X10_rim 46 rfl) rfl ?_
                refine Sx.regK1 (pc2 := 97) (L2 := fun (s97_3 : Int32) => [some (.ref a0), some (.int a1), some (.int a2), some (.int s72_2), none, some (.int x5_40), some (.int x6_40), some (.int x7_40)]) (st2 := fun (s97_3 : Int32) => [.int s97_3]) (h2 := fun (s97_3 : Int32) => h2) ?_ (fun Q3 hK3 => ?_)
                · intro s97_3
                  show Sx K cX10_rim 97 [some (.ref a0), some (.int a1), some (.int a2), some (.int s72_2), none, some (.int x5_40), some (.int x6_40), some (.int x7_40)] [.int s97_3] h2 _ _
                  refine S_istore (L' := [some (.ref a0), some (.int a1), some (.int a2), some (.int s72_2), some (.int s97_3), some (.int x5_40), some (.int x6_40), some (.int x7_40)]) (dc_X10_rim 54 rfl) rfl ?_
                  refine S_aload_n (dc_X10_rim 55 rfl) rfl ?_
                  refine S_iload_n (dc_X10_rim 56 rfl) rfl ?_
                  refine S_iload (dc_X10_rim 57 rfl) rfl ?_
                  refine S_roI (d := k_d K - 1) (e_callV (b := a0) (As := [.int a1, .int x7_40]) (rest := []) ok_X10_x rfl (Nat.le_of_ble_eq_true rfl) (dc_X10_rim 58 rfl) ho q1815 q1817 (show e_cl[8]? = some (RX10, TX10, 51) from rfl) (e_sel.of qs58) (e_is_of i7) rfl (Nat.le_of_ble_eq_true rfl)) (by omega) (fun _ e => ct_X10_x (by omega) e) (fun x103 e103 => ?_)
                  refine S_iload (dc_X10_rim 59 rfl) rfl ?_
                  refine Sx.regK1 (pc2 := 123) (L2 := fun (s123_4 : Int32) => [some (.ref a0), some (.int a1), some (.int a2), some (.int s72_2), some (.int s97_3), none, some (.int x6_40), some (.int x7_40)]) (st2 := fun (s123_4 : Int32) => [.int s123_4]) (h2 := fun (s123_4 : Int32) => h2) ?_ (fun Q4 hK4 => ?_)
                  · intro s123_4
                    show Sx K cX10_rim 123 [some (.ref a0), some (.int a1), some (.int a2), some (.int s72_2), some (.int s97_3), none, some (.int x6_40), some (.int x7_40)] [.int s123_4] h2 _ _
                    refine S_istore (L' := [some (.ref a0), some (.int a1), some (.int a2), some (.int s72_2), some (.int s97_3), some (.int s123_4), some (.int x6_40), some (.int x7_40)]) (dc_X10_rim 67 rfl) rfl ?_
                    refine S_aload_n (dc_X10_rim 68 rfl) rfl ?_
                    refine S_iload_n (dc_X10_rim 69 rfl) rfl ?_
                    refine S_iload (dc_X10_rim 70 rfl) rfl ?_
                    refine S_roI (d := k_d K - 1) (e_callV (b := a0) (As := [.int a1, .int x7_40]) (rest := []) ok_X10_y rfl (Nat.le_of_ble_eq_true rfl) (dc_X10_rim 71 rfl) ho q1819 q1821 (show e_cl[8]? = some (RX10, TX10, 51) from rfl) (e_sel.of qs59) (e_is_of i7) rfl (Nat.le_of_ble_eq_true rfl)) (by omega) (fun _ e => ct_X10_y (by omega) e) (fun x129 e129 => ?_)
                    refine S_iload (dc_X10_rim 72 rfl) rfl ?_
                    refine Sx.regK1 (pc2 := 149) (L2 := fun (s149_5 : Int32) => [some (.ref a0), some (.int a1), some (.int a2), some (.int s72_2), some (.int s97_3), some (.int s123_4), none, some (.int x7_40)]) (st2 := fun (s149_5 : Int32) => [.int s149_5]) (h2 := fun (s149_5 : Int32) => h2) ?_ (fun Q5 hK5 => ?_)
                    · intro s149_5
                      show Sx K cX10_rim 149 [some (.ref a0), some (.int a1), some (.int a2), some (.int s72_2), some (.int s97_3), some (.int s123_4), none, some (.int x7_40)] [.int s149_5] h2 _ _
                      refine S_istore (L' := [some (.ref a0), some (.int a1), some (.int a2), some (.int s72_2), some (.int s97_3), some (.int s123_4), some (.int s149_5), some (.int x7_40)]) (dc_X10_rim 80 rfl) rfl ?_
                      refine S_iincN 1 (L' := fun x151 => [some (.ref a0), some (.int a1), some (.int a2), some (.int s72_2), some (.int s97_3), some (.int s123_4), some (.int s149_5), some (.int x151)]) (dc_X10_rim 81 rfl) rfl rfl (fun _ => rfl) (fun x151 n151 => ?_)
                      refine S_goto 40 (dc_X10_rim 82 rfl) rfl ?_
                      exact ih1 s72_2 s97_3 s123_4 s149_5 x151
                    · have hK5 : ∀ (s149_5 : Int32), Sx K cX10_rim 149 [some (.ref a0), some (.int a1), some (.int a2), some (.int s72_2), some (.int s97_3), some (.int s123_4), none, some (.int x7_40)] [.int s149_5] h2 (some s149_5) Q5 := hK5
                      refine S_icmp_le 147 (dc_X10_rim 73 rfl) rfl (fun c134 => ?_) (fun c134 => ?_)
                      · refine S_iload (dc_X10_rim 79 rfl) rfl ?_
                        refine Sx.cut [true, true, true, true, true, true, false, true] ?_
                        exact hK5 x6_40
                      · refine S_aload_n (dc_X10_rim 74 rfl) rfl ?_
                        refine S_iload_n (dc_X10_rim 75 rfl) rfl ?_
                        refine S_iload (dc_X10_rim 76 rfl) rfl ?_
                        refine S_roI (d := k_d K - 1) (e_callV (b := a0) (As := [.int a1, .int x7_40]) (rest := []) ok_X10_y rfl (Nat.le_of_ble_eq_true rfl) (dc_X10_rim 77 rfl) ho q1819 q1821 (show e_cl[8]? = some (RX10, TX10, 51) from rfl) (e_sel.of qs59) (e_is_of i7) rfl (Nat.le_of_ble_eq_true rfl)) (by omega) (fun _ e => ct_X10_y (by omega) e) (fun x141 e141 => ?_)
                        refine S_goto 149 (dc_X10_rim 78 rfl) rfl ?_
                        refine Sx.cut [true, true, true, true, true, true, false, true] ?_
                        exact hK5 x141
                  · have hK4 : ∀ (s123_4 : Int32), Sx K cX10_rim 123 [some (.ref a0), some (.int a1), some (.int a2), some (.int s72_2), some (.int s97_3), none, some (.int x6_40), some (.int x7_40)] [.int s123_4] h2 (some s123_4) Q4 := hK4
                    refine S_icmp_le 121 (dc_X10_rim 60 rfl) rfl (fun c108 => ?_) (fun c108 => ?_)
                    · refine S_iload (dc_X10_rim 66 rfl) rfl ?_
                      refine Sx.cut [true, true, true, true, true, false, true, true] ?_
                      exact hK4 x5_40
                    · refine S_aload_n (dc_X10_rim 61 rfl) rfl ?_
                      refine S_iload_n (dc_X10_rim 62 rfl) rfl ?_
                      refine S_iload (dc_X10_rim 63 rfl) rfl ?_
                      refine S_roI (d := k_d K - 1) (e_callV (b := a0) (As := [.int a1, .int x7_40]) (rest := []) ok_X10_x rfl (Nat.le_of_ble_eq_true rfl) (dc_X10_rim 64 rfl) ho q1815 q1817 (show e_cl[8]? = some (RX10, TX10, 51) from rfl) (e_sel.of qs58) (e_is_of i7) rfl (Nat.le_of_ble_eq_true rfl)) (by omega) (fun _ e => ct_X10_x (by omega) e) (fun x115 e115 => ?_)
                      refine S_goto 123 (dc_X10_rim 65 rfl) rfl ?_
                      refine Sx.cut [true, true, true, true, true, false, true, true] ?_
                      exact hK4 x115
                · have hK3 : ∀ (s97_3 : Int32), Sx K cX10_rim 97 [some (.ref a0), some (.int a1), some (.int a2), some (.int s72_2), none, some (.int x5_40), some (.int x6_40), some (.int x7_40)] [.int s97_3] h2 (some s97_3) Q3 := hK3
                  refine S_icmp_ge 95 (dc_X10_rim 47 rfl) rfl (fun c82 => ?_) (fun c82 => ?_)
                  · refine S_iload (dc_X10_rim 53 rfl) rfl ?_
                    refine Sx.cut [true, true, true, true, false, true, true, true] ?_
                    exact hK3 x4_40
                  · refine S_aload_n (dc_X10_rim 48 rfl) rfl ?_
                    refine S_iload_n (dc_X10_rim 49 rfl) rfl ?_
                    refine S_iload (dc_X10_rim 50 rfl) rfl ?_
                    refine S_roI (d := k_d K - 1) (e_callV (b := a0) (As := [.int a1, .int x7_40]) (rest := []) ok_X10_y rfl (Nat.le_of_ble_eq_true rfl) (dc_X10_rim 51 rfl) ho q1819 q1821 (show e_cl[8]? = some (RX10, TX10, 51) from rfl) (e_sel.of qs59) (e_is_of i7) rfl (Nat.le_of_ble_eq_true rfl)) (by omega) (fun _ e => ct_X10_y (by omega) e) (fun x89 e89 => ?_)
                    refine S_goto 97 (dc_X10_rim 52 rfl) rfl ?_
                    refine Sx.cut [true, true, true, true, false, true, true, true] ?_
                    exact hK3 x89
              · have hK2 : ∀ (s72_2 : Int32), Sx K cX10_rim 72 [some (.ref a0), some (.int a1), some (.int a2), none, some (.int x4_40), some (.int x5_40), some (.int x6_40), some (.int x7_40)] [.int s72_2] h2 (some s72_2) Q2 := hK2
                refine S_icmp_ge 71 (dc_X10_rim 34 rfl) rfl (fun c58 => ?_) (fun c58 => ?_)
                · refine S_iload_n (dc_X10_rim 40 rfl) rfl ?_
                  refine Sx.cut [true, true, true, false, true, true, true, true] ?_
                  exact hK2 x3_40
                · refine S_aload_n (dc_X10_rim 35 rfl) rfl ?_
                  refine S_iload_n (dc_X10_rim 36 rfl) rfl ?_
                  refine S_iload (dc_X10_rim 37 rfl) rfl ?_
                  refine S_roI (d := k_d K - 1) (e_callV (b := a0) (As := [.int a1, .int x7_40]) (rest := []) ok_X10_x rfl (Nat.le_of_ble_eq_true rfl) (dc_X10_rim 38 rfl) ho q1815 q1817 (show e_cl[8]? = some (RX10, TX10, 51) from rfl) (e_sel.of qs58) (e_is_of i7) rfl (Nat.le_of_ble_eq_true rfl)) (by omega) (fun _ e => ct_X10_x (by omega) e) (fun x65 e65 => ?_)
                  refine S_goto 72 (dc_X10_rim 39 rfl) rfl ?_
                  refine Sx.cut [true, true, true, false, true, true, true, true] ?_
                  exact hK2 x65
        exact ih1 F 99 99 0 0 0
    · refine S_iconst_ (-1) (dc_X10_rim 12 rfl) rfl ?_
      exact S_iret (dc_X10_rim 13 rfl) hT rfl (e_rqI hr)
abbrev cX10_wide : ByteArray := prog_18_method_74_code
def yX10_wide : MethodName := ⟨"PegBandsModel", "wide", "(I)I"⟩
def tb_X10_wide : List (Nat × Instr × Nat) := [(0, .aload_n 0, 1), (1, .iconst 0, 1), (2, .putfield 94, 3), (5, .aload_n 0, 1), (6, .iload_n 1, 1), (7, .invokevirtual 304, 3), (10, .ifCond .ne 5, 3), (13, .iconst (-1), 1), (14, .ireturn, 1), (15, .iconst 0, 1), (16, .istore_n 2, 1), (17, .iconst 0, 1), (18, .istore_n 3, 1), (19, .iload_n 3, 1), (20, .aload_n 0, 1), (21, .iload_n 1, 1), (22, .invokevirtual 279, 3), (25, .if_icmp .ge 83, 3), (28, .iconst 0, 1), (29, .istore 4, 2), (31, .iload 4, 2), (33, .iload_n 3, 1), (34, .if_icmp .ge 68, 3), (37, .aload_n 0, 1), (38, .iload_n 1, 1), (39, .iload_n 3, 1), (40, .invokevirtual 285, 3), (43, .aload_n 0, 1), (44, .iload_n 1, 1), (45, .iload 4, 2), (47, .invokevirtual 285, 3), (50, .isub, 1), (51, .istore 5, 2), (53, .aload_n 0, 1), (54, .iload_n 1, 1), (55, .iload_n 3, 1), (56, .invokevirtual 289, 3), (59, .aload_n 0, 1), (60, .iload_n 1, 1), (61, .iload 4, 2), (63, .invokevirtual 289, 3), (66, .isub, 1), (67, .istore 6, 2), (69, .iload 5, 2), (71, .iload 5, 2), (73, .imul, 1), (74, .iload 6, 2), (76, .iload 6, 2), (78, .imul, 1), (79, .iadd, 1), (80, .iload_n 2, 1), (81, .if_icmp .le 15, 3), (84, .iload 5, 2), (86, .iload 5, 2), (88, .imul, 1), (89, .iload 6, 2), (91, .iload 6, 2), (93, .imul, 1), (94, .iadd, 1), (95, .istore_n 2, 1), (96, .iinc 4 1, 3), (99, .goto (-68), 3), (102, .iinc 3 1, 3), (105, .goto (-86), 3), (108, .iload_n 2, 1), (109, .ireturn, 1)]
theorem tk_X10_wide : ∀ q ∈ tb_X10_wide, decode cX10_wide q.1 = .ok q.2 := by decide +kernel
theorem dc_X10_wide (k : Nat) {pc n : Nat} {i : Instr} (h : tb_X10_wide[k]? = some (pc, i, n)) : decode cX10_wide pc = .ok (i, n) := tk_X10_wide (pc, i, n) (List.mem_of_getElem? h)
abbrev mX10_wide : e_M := (yX10_wide, cX10_wide, 7, some (.int), [])
theorem ok_X10_wide : e_mok mX10_wide 1 := ⟨q1892, q119, by decide +kernel, fun sig h => by cases h; rfl⟩
def lp_X10_wide_31 (F : Nat) (h2 : e_H) (a0 : Nat) (a1 : Int32) (x3_19 : Int32) : Nat → Int32 → Int32 → Option (Int32)
  | 0, _, _ => none
  | n + 1, x2_31, x4_31 =>
    if x3_19 ≤ x4_31 then
      some x2_31
    else
      Option.bind (f_X10_x h2 a0 a1 x3_19) (fun x40 =>
      Option.bind (f_X10_x h2 a0 a1 x4_31) (fun x47 =>
      Option.bind (some (x40 - x47)) (fun x51 =>
      Option.bind (f_X10_y h2 a0 a1 x3_19) (fun x56 =>
      Option.bind (f_X10_y h2 a0 a1 x4_31) (fun x63 =>
      Option.bind (some (x56 - x63)) (fun x67 =>
      Option.bind (
          if ((x51 * x51) + (x67 * x67)) ≤ x2_31 then
            some x2_31
          else
            Option.bind (some ((x51 * x51) + (x67 * x67))) (fun x95 =>
            some x95)
        : Option (Int32)) (fun x2_96_3 =>
      Option.bind (some (x4_31 + 1)) (fun x96 =>
      lp_X10_wide_31 F h2 a0 a1 x3_19 n x2_96_3 x96))))))))
def lp_X10_wide_19 (F : Nat) (h2 : e_H) (a0 : Nat) (a1 : Int32) : Nat → Int32 → Int32 → Option (Int32)
  | 0, _, _ => none
  | n + 1, x2_19, x3_19 =>
    Option.bind (f_X10_corners h2 a0 a1) (fun x22 =>
    if x22 ≤ x3_19 then
      some x2_19
    else
      Option.bind (
          lp_X10_wide_31 F h2 a0 a1 x3_19 F x2_19 0
        : Option (Int32)) (fun x2_102_2 =>
      Option.bind (some (x3_19 + 1)) (fun x102 =>
      lp_X10_wide_19 F h2 a0 a1 n x2_102_2 x102)))
def f_X10_wide (F : Nat) (h : e_H) (a0 : Nat) (a1 : Int32) : Option (Int32 × e_H) :=
  Option.bind (e_gI h a0 8 0 0) (fun h2 =>
  Option.bind (e_is h2 a0 8) (fun _ =>
  Option.bind (f_X10_isBand h2 a0 a1) (fun x7 =>
  if x7 = 0 then
    some ((-1), h2)
  else
    Option.bind (
        lp_X10_wide_19 F h2 a0 a1 F 0 0
      : Option (Int32)) (fun x2_108_1 =>
    some (x2_108_1, h2)))))
set_option maxHeartbeats 4000000 in
set_option maxRecDepth 100000 in
theorem ct_X10_wide {l : Launch} {D : e_D} {B : Heap} {F : Nat} {d : Nat} {h : e_H} {a0 : Nat} {a1 : Int32} {v : Int32} {h1 : e_H} (hd : 4 ≤ d) (e : f_X10_wide F h a0 a1 = some (v, h1)) : e_Run l D B d mX10_wide [.ref a0, .int a1] h (.ok (some (.int v)), h1) := by
  refine e_start [some (.ref a0), some (.int a1), none, none, none, none, none] (by decide) rfl rfl rfl (Nat.le_of_ble_eq_true rfl) (fun K hl0 hD0 hB0 hM hd0 hr => ?_)
  subst hl0 hD0 hB0 hd0
  have ho : (k_M K).1.cls = "PegBandsModel" := by rw [hM]; rfl
  have hT : (k_M K).2.2.2.1 = some (.int) := by rw [hM]
  refine (show Sx K cX10_wide 0 [some (.ref a0), some (.int a1), none, none, none, none, none] [] h (f_X10_wide F h a0 a1) (fun w => w = (v, h1)) from ?_) _ e rfl
  clear e
  unfold f_X10_wide
  refine S_aload_n (dc_X10_wide 0 rfl) rfl ?_
  refine S_iconst_ 0 (dc_X10_wide 1 rfl) rfl ?_
  refine S_putI (dc_X10_wide 2 rfl) ho fl_X10_94_8_0 (fun _ _ => rfl) (Or.inl rfl) rfl rfl (fun h2 e2 => ?_)
  refine S_aload_n (dc_X10_wide 3 rfl) rfl ?_
  refine S_iload_n (dc_X10_wide 4 rfl) rfl ?_
  refine Sx.ask (fun _ i7 => ?_)
  refine S_roI (d := k_d K - 1) (e_callV (b := a0) (As := [.int a1]) (rest := []) ok_X10_isBand rfl (Nat.le_of_ble_eq_true rfl) (dc_X10_wide 5 rfl) ho q1791 q1793 (show e_cl[8]? = some (RX10, TX10, 51) from rfl) (e_sel.of qs52) (e_is_of i7) rfl (Nat.le_of_ble_eq_true rfl)) (by omega) (fun _ e => ct_X10_isBand (by omega) e) (fun x7 e7 => ?_)
  refine S_if_ne 15 (dc_X10_wide 6 rfl) rfl (fun c10 => ?_) (fun c10 => ?_)
  · refine S_iconst_ 0 (dc_X10_wide 9 rfl) rfl ?_
    refine S_istore_n (L' := [some (.ref a0), some (.int a1), some (.int 0), none, none, none, none]) (dc_X10_wide 10 rfl) rfl ?_
    refine S_iconst_ 0 (dc_X10_wide 11 rfl) rfl ?_
    refine S_istore_n (L' := [some (.ref a0), some (.int a1), some (.int 0), some (.int 0), none, none, none]) (dc_X10_wide 12 rfl) rfl ?_
    refine Sx.regK1 (pc2 := 108) (L2 := fun (x2_108_1 : Int32) => [none, none, some (.int x2_108_1), none, none, none, none]) (st2 := fun (x2_108_1 : Int32) => []) (h2 := fun (x2_108_1 : Int32) => h2) ?_ (fun Q1 hK1 => ?_)
    · intro x2_108_1
      show Sx K cX10_wide 108 [none, none, some (.int x2_108_1), none, none, none, none] [] h2 _ _
      refine S_iload_n (dc_X10_wide 64 rfl) rfl ?_
      exact S_iret (dc_X10_wide 65 rfl) hT rfl (e_rqI hr)
    · have hK1 : ∀ (x2_108_1 : Int32), Sx K cX10_wide 108 [none, none, some (.int x2_108_1), none, none, none, none] [] h2 (some x2_108_1) Q1 := hK1
      have ih1 : ∀ (n : Nat) (x2_19 : Int32) (x3_19 : Int32), Sx K cX10_wide 19 [some (.ref a0), some (.int a1), some (.int x2_19), some (.int x3_19), none, none, none] [] h2 (lp_X10_wide_19 F h2 a0 a1 n x2_19 x3_19) Q1 := by
        intro n
        induction n with
        | zero => intro x2_19 x3_19; exact Sx.none
        | succ n ih1 =>
          intro x2_19 x3_19
          rw [lp_X10_wide_19.eq_2]
          refine S_iload_n (dc_X10_wide 13 rfl) rfl ?_
          refine S_aload_n (dc_X10_wide 14 rfl) rfl ?_
          refine S_iload_n (dc_X10_wide 15 rfl) rfl ?_
          refine S_roI (d := k_d K - 1) (e_callV (b := a0) (As := [.int a1]) (rest := [.int x3_19]) ok_X10_corners rfl (Nat.le_of_ble_eq_true rfl) (dc_X10_wide 16 rfl) ho q1803 q1805 (show e_cl[8]? = some (RX10, TX10, 51) from rfl) (e_sel.of qs55) (e_is_of i7) rfl (Nat.le_of_ble_eq_true rfl)) (by omega) (fun _ e => ct_X10_corners (by omega) e) (fun x22 e22 => ?_)
          refine S_icmp_ge 108 (dc_X10_wide 17 rfl) rfl (fun c25 => ?_) (fun c25 => ?_)
          · refine Sx.cut [false, false, true, false, true, true, true] ?_
            exact hK1 x2_19
          · refine S_iconst_ 0 (dc_X10_wide 18 rfl) rfl ?_
            refine S_istore (L' := [some (.ref a0), some (.int a1), some (.int x2_19), some (.int x3_19), some (.int 0), none, none]) (dc_X10_wide 19 rfl) rfl ?_
            refine Sx.regK1 (pc2 := 102) (L2 := fun (x2_102_2 : Int32) => [some (.ref a0), some (.int a1), some (.int x2_102_2), some (.int x3_19), none, none, none]) (st2 := fun (x2_102_2 : Int32) => []) (h2 := fun (x2_102_2 : Int32) => h2) ?_ (fun Q2 hK2 => ?_)
            · intro x2_102_2
              show Sx K cX10_wide 102 [some (.ref a0), some (.int a1), some (.int x2_102_2), some (.int x3_19), none, none, none] [] h2 _ _
              refine S_iincN 1 (L' := fun x102 => [some (.ref a0), some (.int a1), some (.int x2_102_2), some (.int x102), none, none, none]) (dc_X10_wide 62 rfl) rfl rfl (fun _ => rfl) (fun x102 n102 => ?_)
              refine S_goto 19 (dc_X10_wide 63 rfl) rfl ?_
              exact ih1 x2_102_2 x102
            · have hK2 : ∀ (x2_102_2 : Int32), Sx K cX10_wide 102 [some (.ref a0), some (.int a1), some (.int x2_102_2), some (.int x3_19), none, none, none] [] h2 (some x2_102_2) Q2 := hK2
              have ih2 : ∀ (n : Nat) (x2_31 : Int32) (x4_31 : Int32), Sx K cX10_wide 31 [some (.ref a0), some (.int a1), some (.int x2_31), some (.int x3_19), some (.int x4_31), none, none] [] h2 (lp_X10_wide_31 F h2 a0 a1 x3_19 n x2_31 x4_31) Q2 := by
                intro n
                induction n with
                | zero => intro x2_31 x4_31; exact Sx.none
                | succ n ih2 =>
                  intro x2_31 x4_31
                  rw [lp_X10_wide_31.eq_2]
                  refine S_iload (dc_X10_wide 20 rfl) rfl ?_
                  refine S_iload_n (dc_X10_wide 21 rfl) rfl ?_
                  refine S_icmp_ge 102 (dc_X10_wide 22 rfl) rfl (fun c34 => ?_) (fun c34 => ?_)
                  · refine Sx.cut [true, true, true, true, false, true, true] ?_
                    exact hK2 x2_31
                  · refine S_aload_n (dc_X10_wide 23 rfl) rfl ?_
                    refine S_iload_n (dc_X10_wide 24 rfl) rfl ?_
                    refine S_iload_n (dc_X10_wide 25 rfl) rfl ?_
                    refine S_roI (d := k_d K - 1) (e_callV (b := a0) (As := [.int a1, .int x3_19]) (rest := []) ok_X10_x rfl (Nat.le_of_ble_eq_true rfl) (dc_X10_wide 26 rfl) ho q1815 q1817 (show e_cl[8]? = some (RX10, TX10, 51) from rfl) (e_sel.of qs58) (e_is_of i7) rfl (Nat.le_of_ble_eq_true rfl)) (by omega) (fun _ e => ct_X10_x (by omega) e) (fun x40 e40 => ?_)
                    refine S_aload_n (dc_X10_wide 27 rfl) rfl ?_
                    refine S_iload_n (dc_X10_wide 28 rfl) rfl ?_
                    refine S_iload (dc_X10_wide 29 rfl) rfl ?_
                    refine S_roI (d := k_d K - 1) (e_callV (b := a0) (As := [.int a1, .int x4_31]) (rest := [.int x40]) ok_X10_x rfl (Nat.le_of_ble_eq_true rfl) (dc_X10_wide 30 rfl) ho q1815 q1817 (show e_cl[8]? = some (RX10, TX10, 51) from rfl) (e_sel.of qs58) (e_is_of i7) rfl (Nat.le_of_ble_eq_true rfl)) (by omega) (fun _ e => ct_X10_x (by omega) e) (fun x47 e47 => ?_)
                    refine S_isub (dc_X10_wide 31 rfl) ?_
                    refine Sx.nameI (fun x51 n51 => ?_)
                    refine S_istore (L' := [some (.ref a0), some (.int a1), some (.int x2_31), some (.int x3_19), some (.int x4_31), some (.int x51), none]) (dc_X10_wide 32 rfl) rfl ?_
                    refine S_aload_n (dc_X10_wide 33 rfl) rfl ?_
                    refine S_iload_n (dc_X10_wide 34 rfl) rfl ?_
                    refine S_iload_n (dc_X10_wide 35 rfl) rfl ?_
                    refine S_roI (d := k_d K - 1) (e_callV (b := a0) (As := [.int a1, .int x3_19]) (rest := []) ok_X10_y rfl (Nat.le_of_ble_eq_true rfl) (dc_X10_wide 36 rfl) ho q1819 q1821 (show e_cl[8]? = some (RX10, TX10, 51) from rfl) (e_sel.of qs59) (e_is_of i7) rfl (Nat.le_of_ble_eq_true rfl)) (by omega) (fun _ e => ct_X10_y (by omega) e) (fun x56 e56 => ?_)
                    refine S_aload_n (dc_X10_wide 37 rfl) rfl ?_
                    refine S_iload_n (dc_X10_wide 38 rfl) rfl ?_
                    refine S_iload (dc_X10_wide 39 rfl) rfl ?_
                    refine S_roI (d := k_d K - 1) (e_callV (b := a0) (As := [.int a1, .int x4_31]) (rest := [.int x56]) ok_X10_y rfl (Nat.le_of_ble_eq_true rfl) (dc_X10_wide 40 rfl) ho q1819 q1821 (show e_cl[8]? = some (RX10, TX10, 51) from rfl) (e_sel.of qs59) (e_is_of i7) rfl (Nat.le_of_ble_eq_true rfl)) (by omega) (fun _ e => ct_X10_y (by omega) e) (fun x63 e63 => ?_)
                    refine S_isub (dc_X10_wide 41 rfl) ?_
                    refine Sx.nameI (fun x67 n67 => ?_)
                    refine S_istore (L' := [some (.ref a0), some (.int a1), some (.int x2_31), some (.int x3_19), some (.int x4_31), some (.int x51), some (.int x67)]) (dc_X10_wide 42 rfl) rfl ?_
                    refine S_iload (dc_X10_wide 43 rfl) rfl ?_
                    refine S_iload (dc_X10_wide 44 rfl) rfl ?_
                    refine S_imul (dc_X10_wide 45 rfl) ?_
                    refine S_iload (dc_X10_wide 46 rfl) rfl ?_
                    refine S_iload (dc_X10_wide 47 rfl) rfl ?_
                    refine S_imul (dc_X10_wide 48 rfl) ?_
                    refine S_iadd (dc_X10_wide 49 rfl) ?_
                    refine S_iload_n (dc_X10_wide 50 rfl) rfl ?_
                    refine Sx.regK1 (pc2 := 96) (L2 := fun (x2_96_3 : Int32) => [some (.ref a0), some (.int a1), some (.int x2_96_3), some (.int x3_19), some (.int x4_31), none, none]) (st2 := fun (x2_96_3 : Int32) => []) (h2 := fun (x2_96_3 : Int32) => h2) ?_ (fun Q3 hK3 => ?_)
                    · intro x2_96_3
                      show Sx K cX10_wide 96 [some (.ref a0), some (.int a1), some (.int x2_96_3), some (.int x3_19), some (.int x4_31), none, none] [] h2 _ _
                      refine S_iincN 1 (L' := fun x96 => [some (.ref a0), some (.int a1), some (.int x2_96_3), some (.int x3_19), some (.int x96), none, none]) (dc_X10_wide 60 rfl) rfl rfl (fun _ => rfl) (fun x96 n96 => ?_)
                      refine S_goto 31 (dc_X10_wide 61 rfl) rfl ?_
                      exact ih2 x2_96_3 x96
                    · have hK3 : ∀ (x2_96_3 : Int32), Sx K cX10_wide 96 [some (.ref a0), some (.int a1), some (.int x2_96_3), some (.int x3_19), some (.int x4_31), none, none] [] h2 (some x2_96_3) Q3 := hK3
                      refine S_icmp_le 96 (dc_X10_wide 51 rfl) rfl (fun c81 => ?_) (fun c81 => ?_)
                      · refine Sx.cut [true, true, true, true, true, false, false] ?_
                        exact hK3 x2_31
                      · refine S_iload (dc_X10_wide 52 rfl) rfl ?_
                        refine S_iload (dc_X10_wide 53 rfl) rfl ?_
                        refine S_imul (dc_X10_wide 54 rfl) ?_
                        refine S_iload (dc_X10_wide 55 rfl) rfl ?_
                        refine S_iload (dc_X10_wide 56 rfl) rfl ?_
                        refine S_imul (dc_X10_wide 57 rfl) ?_
                        refine S_iadd (dc_X10_wide 58 rfl) ?_
                        refine Sx.nameI (fun x95 n95 => ?_)
                        refine S_istore_n (L' := [some (.ref a0), some (.int a1), some (.int x95), some (.int x3_19), some (.int x4_31), some (.int x51), some (.int x67)]) (dc_X10_wide 59 rfl) rfl ?_
                        refine Sx.cut [true, true, true, true, true, false, false] ?_
                        exact hK3 x95
              exact ih2 F x2_19 0
      exact ih1 F 0 0
  · refine S_iconst_ (-1) (dc_X10_wide 7 rfl) rfl ?_
    exact S_iret (dc_X10_wide 8 rfl) hT rfl (e_rqI hr)
abbrev cX10_turnBand : ByteArray := prog_18_method_75_code
def yX10_turnBand : MethodName := ⟨"PegBandsModel", "turnBand", "(IIZ)V"⟩
def tb_X10_turnBand : List (Nat × Instr × Nat) := [(0, .aload_n 0, 1), (1, .iload_n 1, 1), (2, .invokevirtual 279, 3), (5, .istore 4, 2), (7, .sipush 999, 3), (10, .istore 5, 2), (12, .sipush 999, 3), (15, .istore 6, 2), (17, .iconst 0, 1), (18, .istore 7, 2), (20, .iload 7, 2), (22, .iload 4, 2), (24, .if_icmp .ge 126, 3), (27, .iload_n 3, 1), (28, .ifCond .eq 14, 3), (31, .aload_n 0, 1), (32, .iload_n 1, 1), (33, .iload 7, 2), (35, .invokevirtual 285, 3), (38, .ineg, 1), (39, .goto 10, 3), (42, .aload_n 0, 1), (43, .iload_n 1, 1), (44, .iload 7, 2), (46, .invokevirtual 285, 3), (49, .istore 8, 2), (51, .aload_n 0, 1), (52, .iload_n 1, 1), (53, .iload 7, 2), (55, .invokevirtual 289, 3), (58, .istore 9, 2), (60, .iconst 0, 1), (61, .istore 10, 2), (63, .iload 10, 2), (65, .iload_n 2, 1), (66, .if_icmp .ge 22, 3), (69, .iload 8, 2), (71, .istore 11, 2), (73, .iload 9, 2), (75, .ineg, 1), (76, .istore 8, 2), (78, .iload 11, 2), (80, .istore 9, 2), (82, .iinc 10 1, 3), (85, .goto (-22), 3), (88, .aload_n 0, 1), (89, .getfield 51, 3), (92, .iconst 2, 1), (93, .iload 7, 2), (95, .imul, 1), (96, .iload 8, 2), (98, .iastore, 1), (99, .aload_n 0, 1), (100, .getfield 51, 3), (103, .iconst 2, 1), (104, .iload 7, 2), (106, .imul, 1), (107, .iconst 1, 1), (108, .iadd, 1), (109, .iload 9, 2), (111, .iastore, 1), (112, .iload 8, 2), (114, .iload 5, 2), (116, .if_icmp .ge 8, 3), (119, .iload 8, 2), (121, .goto 5, 3), (124, .iload 5, 2), (126, .istore 5, 2), (128, .iload 9, 2), (130, .iload 6, 2), (132, .if_icmp .ge 8, 3), (135, .iload 9, 2), (137, .goto 5, 3), (140, .iload 6, 2), (142, .istore 6, 2), (144, .iinc 7 1, 3), (147, .goto (-127), 3), (150, .iconst 0, 1), (151, .istore 7, 2), (153, .iload 7, 2), (155, .iload 4, 2), (157, .if_icmp .ge 39, 3), (160, .aload_n 0, 1), (161, .getfield 51, 3), (164, .iconst 2, 1), (165, .iload 7, 2), (167, .imul, 1), (168, .dup2, 1), (169, .iaload, 1), (170, .iload 5, 2), (172, .isub, 1), (173, .iastore, 1), (174, .aload_n 0, 1), (175, .getfield 51, 3), (178, .iconst 2, 1), (179, .iload 7, 2), (181, .imul, 1), (182, .iconst 1, 1), (183, .iadd, 1), (184, .dup2, 1), (185, .iaload, 1), (186, .iload 6, 2), (188, .isub, 1), (189, .iastore, 1), (190, .iinc 7 1, 3), (193, .goto (-40), 3), (196, .return_, 1)]
theorem tk_X10_turnBand : ∀ q ∈ tb_X10_turnBand, decode cX10_turnBand q.1 = .ok q.2 := by decide +kernel
theorem dc_X10_turnBand (k : Nat) {pc n : Nat} {i : Instr} (h : tb_X10_turnBand[k]? = some (pc, i, n)) : decode cX10_turnBand pc = .ok (i, n) := tk_X10_turnBand (pc, i, n) (List.mem_of_getElem? h)
abbrev mX10_turnBand : e_M := (yX10_turnBand, cX10_turnBand, 12, none, [])
theorem ok_X10_turnBand : e_mok mX10_turnBand 3 := ⟨q1908, q119, by decide +kernel, fun sig h => by cases h; rfl⟩
def lp_X10_turnBand_63 (F : Nat) (a2 : Int32) : Nat → Int32 → Int32 → Int32 → Option ((Int32 × Int32))
  | 0, _, _, _ => none
  | n + 1, x8_63, x9_63, x10_63 =>
    if a2 ≤ x10_63 then
      some (x8_63, x9_63)
    else
      Option.bind (some (-x9_63)) (fun x76 =>
      Option.bind (some (x10_63 + 1)) (fun x82 =>
      lp_X10_turnBand_63 F a2 n x76 x8_63 x82))
def lp_X10_turnBand_20 (F : Nat) (a0 : Nat) (a1 : Int32) (a2 : Int32) (a3 : Int32) (x2 : Int32) : Nat → Int32 → Int32 → Int32 → e_H → Option ((Int32 × Int32 × e_H))
  | 0, _, _, _, _ => none
  | n + 1, x5_20, x6_20, x7_20, h_20 =>
    if x2 ≤ x7_20 then
      some (x5_20, x6_20, h_20)
    else
      Option.bind (
          if a3 = 0 then
            Option.bind (e_is h_20 a0 8) (fun _ =>
            Option.bind (f_X10_x h_20 a0 a1 x7_20) (fun x46 =>
            some x46))
          else
            Option.bind (e_is h_20 a0 8) (fun _ =>
            Option.bind (f_X10_x h_20 a0 a1 x7_20) (fun x35 =>
            some (-x35)))
        : Option (Int32)) (fun s49_2 =>
      Option.bind (e_is h_20 a0 8) (fun _ =>
      Option.bind (f_X10_y h_20 a0 a1 x7_20) (fun x55 =>
      Option.bind (
          lp_X10_turnBand_63 F a2 F s49_2 x55 0
        : Option ((Int32 × Int32))) (e_u2 (fun x8_88_3 x9_88_3 =>
      Option.bind (e_fA h_20 a0 8 28) (fun x89 =>
      Option.bind (e_wI h_20 x89 0 (2 * x7_20) x8_88_3) (fun h98 =>
      Option.bind (e_fA h98 a0 8 28) (fun x100 =>
      Option.bind (e_wI h98 x100 0 ((2 * x7_20) + 1) x9_88_3) (fun h111 =>
      Option.bind (
          if x5_20 ≤ x8_88_3 then
            some x5_20
          else
            some x8_88_3
        : Option (Int32)) (fun s126_4 =>
      Option.bind (
          if x6_20 ≤ x9_88_3 then
            some x6_20
          else
            some x9_88_3
        : Option (Int32)) (fun s142_5 =>
      Option.bind (some (x7_20 + 1)) (fun x144 =>
      lp_X10_turnBand_20 F a0 a1 a2 a3 x2 n s126_4 s142_5 x144 h111))))))))))))
def lp_X10_turnBand_153 (F : Nat) (a0 : Nat) (x2 : Int32) (x5_150_1 : Int32) (x6_150_1 : Int32) : Nat → Int32 → e_H → Option (e_H)
  | 0, _, _ => none
  | n + 1, x7_153, h_153 =>
    if x2 ≤ x7_153 then
      some h_153
    else
      Option.bind (e_fA h_153 a0 8 28) (fun x161 =>
      Option.bind (e_aI h_153 x161 0 (2 * x7_153)) (fun x169 =>
      Option.bind (e_wI h_153 x161 0 (2 * x7_153) (x169 - x5_150_1)) (fun h173 =>
      Option.bind (e_fA h173 a0 8 28) (fun x175 =>
      Option.bind (e_aI h173 x175 0 ((2 * x7_153) + 1)) (fun x185 =>
      Option.bind (e_wI h173 x175 0 ((2 * x7_153) + 1) (x185 - x6_150_1)) (fun h189 =>
      Option.bind (some (x7_153 + 1)) (fun x190 =>
      lp_X10_turnBand_153 F a0 x2 x5_150_1 x6_150_1 n x190 h189)))))))
def f_X10_turnBand (F : Nat) (h : e_H) (a0 : Nat) (a1 : Int32) (a2 : Int32) (a3 : Int32) : Option e_H :=
  Option.bind (e_is h a0 8) (fun _ =>
  Option.bind (f_X10_corners h a0 a1) (fun x2 =>
  Option.bind (
      lp_X10_turnBand_20 F a0 a1 a2 a3 x2 F 999 999 0 h
    : Option ((Int32 × Int32 × e_H))) (e_u3 (fun x5_150_1 x6_150_1 h150_1 =>
  Option.bind (
      lp_X10_turnBand_153 F a0 x2 x5_150_1 x6_150_1 F 0 h150_1
    : Option (e_H)) (fun h196_6 =>
  some h196_6)))))
set_option maxHeartbeats 4000000 in
set_option maxRecDepth 100000 in
theorem ct_X10_turnBand {l : Launch} {D : e_D} {B : Heap} {F : Nat} {d : Nat} {h : e_H} {a0 : Nat} {a1 : Int32} {a2 : Int32} {a3 : Int32} {h1 : e_H} (hd : 4 ≤ d) (e : f_X10_turnBand F h a0 a1 a2 a3 = some h1) : e_Run l D B d mX10_turnBand [.ref a0, .int a1, .int a2, .int a3] h (.ok none, h1) := by
  refine e_start [some (.ref a0), some (.int a1), some (.int a2), some (.int a3), none, none, none, none, none, none, none, none] (by decide) rfl rfl rfl (Nat.le_of_ble_eq_true rfl) (fun K hl0 hD0 hB0 hM hd0 hr => ?_)
  subst hl0 hD0 hB0 hd0
  have ho : (k_M K).1.cls = "PegBandsModel" := by rw [hM]; rfl
  have hT : (k_M K).2.2.2.1 = none := by rw [hM]
  refine (show Sx K cX10_turnBand 0 [some (.ref a0), some (.int a1), some (.int a2), some (.int a3), none, none, none, none, none, none, none, none] [] h (f_X10_turnBand F h a0 a1 a2 a3) (fun w => w = h1) from ?_) _ e rfl
  clear e
  unfold f_X10_turnBand
  refine S_aload_n (dc_X10_turnBand 0 rfl) rfl ?_
  refine S_iload_n (dc_X10_turnBand 1 rfl) rfl ?_
  refine Sx.ask (fun _ i2 => ?_)
  refine S_roI (d := k_d K - 1) (e_callV (b := a0) (As := [.int a1]) (rest := []) ok_X10_corners rfl (Nat.le_of_ble_eq_true rfl) (dc_X10_turnBand 2 rfl) ho q1803 q1805 (show e_cl[8]? = some (RX10, TX10, 51) from rfl) (e_sel.of qs55) (e_is_of i2) rfl (Nat.le_of_ble_eq_true rfl)) (by omega) (fun _ e => ct_X10_corners (by omega) e) (fun x2 e2 => ?_)
  refine S_istore (L' := [some (.ref a0), some (.int a1), some (.int a2), some (.int a3), some (.int x2), none, none, none, none, none, none, none]) (dc_X10_turnBand 3 rfl) rfl ?_
  refine S_sipush_ 999 (dc_X10_turnBand 4 rfl) rfl ?_
  refine S_istore (L' := [some (.ref a0), some (.int a1), some (.int a2), some (.int a3), some (.int x2), some (.int 999), none, none, none, none, none, none]) (dc_X10_turnBand 5 rfl) rfl ?_
  refine S_sipush_ 999 (dc_X10_turnBand 6 rfl) rfl ?_
  refine S_istore (L' := [some (.ref a0), some (.int a1), some (.int a2), some (.int a3), some (.int x2), some (.int 999), some (.int 999), none, none, none, none, none]) (dc_X10_turnBand 7 rfl) rfl ?_
  refine S_iconst_ 0 (dc_X10_turnBand 8 rfl) rfl ?_
  refine S_istore (L' := [some (.ref a0), some (.int a1), some (.int a2), some (.int a3), some (.int x2), some (.int 999), some (.int 999), some (.int 0), none, none, none, none]) (dc_X10_turnBand 9 rfl) rfl ?_
  refine Sx.regK3 (pc2 := 150) (L2 := fun (x5_150_1 : Int32) (x6_150_1 : Int32) (h150_1 : e_H) => [some (.ref a0), none, none, none, some (.int x2), some (.int x5_150_1), some (.int x6_150_1), none, none, none, none, none]) (st2 := fun (x5_150_1 : Int32) (x6_150_1 : Int32) (h150_1 : e_H) => []) (h2 := fun (x5_150_1 : Int32) (x6_150_1 : Int32) (h150_1 : e_H) => h150_1) ?_ (fun Q1 hK1 => ?_)
  · intro x5_150_1 x6_150_1 h150_1
    show Sx K cX10_turnBand 150 [some (.ref a0), none, none, none, some (.int x2), some (.int x5_150_1), some (.int x6_150_1), none, none, none, none, none] [] h150_1 _ _
    refine S_iconst_ 0 (dc_X10_turnBand 77 rfl) rfl ?_
    refine S_istore (L' := [some (.ref a0), none, none, none, some (.int x2), some (.int x5_150_1), some (.int x6_150_1), some (.int 0), none, none, none, none]) (dc_X10_turnBand 78 rfl) rfl ?_
    refine Sx.regK1 (pc2 := 196) (L2 := fun (h196_6 : e_H) => [none, none, none, none, none, none, none, none, none, none, none, none]) (st2 := fun (h196_6 : e_H) => []) (h2 := fun (h196_6 : e_H) => h196_6) ?_ (fun Q6 hK6 => ?_)
    · intro h196_6
      show Sx K cX10_turnBand 196 [none, none, none, none, none, none, none, none, none, none, none, none] [] h196_6 _ _
      exact S_vret (dc_X10_turnBand 106 rfl) hT (fun q => by cases q; exact hr)
    · have hK6 : ∀ (h196_6 : e_H), Sx K cX10_turnBand 196 [none, none, none, none, none, none, none, none, none, none, none, none] [] h196_6 (some h196_6) Q6 := hK6
      have ih6 : ∀ (n : Nat) (x7_153 : Int32) (h_153 : e_H), Sx K cX10_turnBand 153 [some (.ref a0), none, none, none, some (.int x2), some (.int x5_150_1), some (.int x6_150_1), some (.int x7_153), none, none, none, none] [] h_153 (lp_X10_turnBand_153 F a0 x2 x5_150_1 x6_150_1 n x7_153 h_153) Q6 := by
        intro n
        induction n with
        | zero => intro x7_153 h_153; exact Sx.none
        | succ n ih6 =>
          intro x7_153 h_153
          rw [lp_X10_turnBand_153.eq_2]
          refine S_iload (dc_X10_turnBand 79 rfl) rfl ?_
          refine S_iload (dc_X10_turnBand 80 rfl) rfl ?_
          refine S_icmp_ge 196 (dc_X10_turnBand 81 rfl) rfl (fun c157 => ?_) (fun c157 => ?_)
          · refine Sx.cut [false, true, true, true, false, false, false, false, true, true, true, true] ?_
            exact hK6 h_153
          · refine S_aload_n (dc_X10_turnBand 82 rfl) rfl ?_
            refine S_getA (dc_X10_turnBand 83 rfl) ho fl_X10_51_8_28 (fun _ _ => rfl) (fun x161 e161 => ?_)
            refine S_iconst_ 2 (dc_X10_turnBand 84 rfl) rfl ?_
            refine S_iload (dc_X10_turnBand 85 rfl) rfl ?_
            refine S_imul (dc_X10_turnBand 86 rfl) ?_
            refine S_dup2 (dc_X10_turnBand 87 rfl) rfl rfl ?_
            refine S_iald (dc_X10_turnBand 88 rfl) (fun x169 e169 => ?_)
            refine S_iload (dc_X10_turnBand 89 rfl) rfl ?_
            refine S_isub (dc_X10_turnBand 90 rfl) ?_
            refine S_iast (dc_X10_turnBand 91 rfl) (fun h173 e173 => ?_)
            refine S_aload_n (dc_X10_turnBand 92 rfl) rfl ?_
            refine S_getA (dc_X10_turnBand 93 rfl) ho fl_X10_51_8_28 (fun _ _ => rfl) (fun x175 e175 => ?_)
            refine S_iconst_ 2 (dc_X10_turnBand 94 rfl) rfl ?_
            refine S_iload (dc_X10_turnBand 95 rfl) rfl ?_
            refine S_imul (dc_X10_turnBand 96 rfl) ?_
            refine S_iconst_ 1 (dc_X10_turnBand 97 rfl) rfl ?_
            refine S_iadd (dc_X10_turnBand 98 rfl) ?_
            refine S_dup2 (dc_X10_turnBand 99 rfl) rfl rfl ?_
            refine S_iald (dc_X10_turnBand 100 rfl) (fun x185 e185 => ?_)
            refine S_iload (dc_X10_turnBand 101 rfl) rfl ?_
            refine S_isub (dc_X10_turnBand 102 rfl) ?_
            refine S_iast (dc_X10_turnBand 103 rfl) (fun h189 e189 => ?_)
            refine S_iincN 1 (L' := fun x190 => [some (.ref a0), none, none, none, some (.int x2), some (.int x5_150_1), some (.int x6_150_1), some (.int x190), none, none, none, none]) (dc_X10_turnBand 104 rfl) rfl rfl (fun _ => rfl) (fun x190 n190 => ?_)
            refine S_goto 153 (dc_X10_turnBand 105 rfl) rfl ?_
            exact ih6 x190 h189
      exact ih6 F 0 h150_1
  · have hK1 : ∀ (x5_150_1 : Int32) (x6_150_1 : Int32) (h150_1 : e_H), Sx K cX10_turnBand 150 [some (.ref a0), none, none, none, some (.int x2), some (.int x5_150_1), some (.int x6_150_1), none, none, none, none, none] [] h150_1 (some (x5_150_1, x6_150_1, h150_1)) Q1 := hK1
    have ih1 : ∀ (n : Nat) (x5_20 : Int32) (x6_20 : Int32) (x7_20 : Int32) (h_20 : e_H), Sx K cX10_turnBand 20 [some (.ref a0), some (.int a1), some (.int a2), some (.int a3), some (.int x2), some (.int x5_20), some (.int x6_20), some (.int x7_20), none, none, none, none] [] h_20 (lp_X10_turnBand_20 F a0 a1 a2 a3 x2 n x5_20 x6_20 x7_20 h_20) Q1 := by
      intro n
      induction n with
      | zero => intro x5_20 x6_20 x7_20 h_20; exact Sx.none
      | succ n ih1 =>
        intro x5_20 x6_20 x7_20 h_20
        rw [lp_X10_turnBand_20.eq_2]
        refine S_iload (dc_X10_turnBand 10 rfl) rfl ?_
        refine S_iload (dc_X10_turnBand 11 rfl) rfl ?_
        refine S_icmp_ge 150 (dc_X10_turnBand 12 rfl) rfl (fun c24 => ?_) (fun c24 => ?_)
        · refine Sx.cut [true, false, false, false, true, true, true, false, true, true, true, true] ?_
          exact hK1 x5_20 x6_20 h_20
        · refine S_iload_n (dc_X10_turnBand 13 rfl) rfl ?_
          refine Sx.regK1 (pc2 := 49) (L2 := fun (s49_2 : Int32) => [some (.ref a0), some (.int a1), some (.int a2), some (.int a3), some (.int x2), some (.int x5_20), some (.int x6_20), some (.int x7_20), none, none, none, none]) (st2 := fun (s49_2 : Int32) => [.int s49_2]) (h2 := fun (s49_2 : Int32) => h_20) ?_ (fun Q2 hK2 => ?_)
          · intro s49_2
            show Sx K cX10_turnBand 49 [some (.ref a0), some (.int a1), some (.int a2), some (.int a3), some (.int x2), some (.int x5_20), some (.int x6_20), some (.int x7_20), none, none, none, none] [.int s49_2] h_20 _ _
            refine S_istore (L' := [some (.ref a0), some (.int a1), some (.int a2), some (.int a3), some (.int x2), some (.int x5_20), some (.int x6_20), some (.int x7_20), some (.int s49_2), none, none, none]) (dc_X10_turnBand 25 rfl) rfl ?_
            refine S_aload_n (dc_X10_turnBand 26 rfl) rfl ?_
            refine S_iload_n (dc_X10_turnBand 27 rfl) rfl ?_
            refine S_iload (dc_X10_turnBand 28 rfl) rfl ?_
            refine Sx.ask (fun _ i55 => ?_)
            refine S_roI (d := k_d K - 1) (e_callV (b := a0) (As := [.int a1, .int x7_20]) (rest := []) ok_X10_y rfl (Nat.le_of_ble_eq_true rfl) (dc_X10_turnBand 29 rfl) ho q1819 q1821 (show e_cl[8]? = some (RX10, TX10, 51) from rfl) (e_sel.of qs59) (e_is_of i55) rfl (Nat.le_of_ble_eq_true rfl)) (by omega) (fun _ e => ct_X10_y (by omega) e) (fun x55 e55 => ?_)
            refine S_istore (L' := [some (.ref a0), some (.int a1), some (.int a2), some (.int a3), some (.int x2), some (.int x5_20), some (.int x6_20), some (.int x7_20), some (.int s49_2), some (.int x55), none, none]) (dc_X10_turnBand 30 rfl) rfl ?_
            refine S_iconst_ 0 (dc_X10_turnBand 31 rfl) rfl ?_
            refine S_istore (L' := [some (.ref a0), some (.int a1), some (.int a2), some (.int a3), some (.int x2), some (.int x5_20), some (.int x6_20), some (.int x7_20), some (.int s49_2), some (.int x55), some (.int 0), none]) (dc_X10_turnBand 32 rfl) rfl ?_
            refine Sx.regK2 (pc2 := 88) (L2 := fun (x8_88_3 : Int32) (x9_88_3 : Int32) => [some (.ref a0), some (.int a1), some (.int a2), some (.int a3), some (.int x2), some (.int x5_20), some (.int x6_20), some (.int x7_20), some (.int x8_88_3), some (.int x9_88_3), none, none]) (st2 := fun (x8_88_3 : Int32) (x9_88_3 : Int32) => []) (h2 := fun (x8_88_3 : Int32) (x9_88_3 : Int32) => h_20) ?_ (fun Q3 hK3 => ?_)
            · intro x8_88_3 x9_88_3
              show Sx K cX10_turnBand 88 [some (.ref a0), some (.int a1), some (.int a2), some (.int a3), some (.int x2), some (.int x5_20), some (.int x6_20), some (.int x7_20), some (.int x8_88_3), some (.int x9_88_3), none, none] [] h_20 _ _
              refine S_aload_n (dc_X10_turnBand 45 rfl) rfl ?_
              refine S_getA (dc_X10_turnBand 46 rfl) ho fl_X10_51_8_28 (fun _ _ => rfl) (fun x89 e89 => ?_)
              refine S_iconst_ 2 (dc_X10_turnBand 47 rfl) rfl ?_
              refine S_iload (dc_X10_turnBand 48 rfl) rfl ?_
              refine S_imul (dc_X10_turnBand 49 rfl) ?_
              refine S_iload (dc_X10_turnBand 50 rfl) rfl ?_
              refine S_iast (dc_X10_turnBand 51 rfl) (fun h98 e98 => ?_)
              refine S_aload_n (dc_X10_turnBand 52 rfl) rfl ?_
              refine S_getA (dc_X10_turnBand 53 rfl) ho fl_X10_51_8_28 (fun _ _ => rfl) (fun x100 e100 => ?_)
              refine S_iconst_ 2 (dc_X10_turnBand 54 rfl) rfl ?_
              refine S_iload (dc_X10_turnBand 55 rfl) rfl ?_
              refine S_imul (dc_X10_turnBand 56 rfl) ?_
              refine S_iconst_ 1 (dc_X10_turnBand 57 rfl) rfl ?_
              refine S_iadd (dc_X10_turnBand 58 rfl) ?_
              refine S_iload (dc_X10_turnBand 59 rfl) rfl ?_
              refine S_iast (dc_X10_turnBand 60 rfl) (fun h111 e111 => ?_)
              refine S_iload (dc_X10_turnBand 61 rfl) rfl ?_
              refine S_iload (dc_X10_turnBand 62 rfl) rfl ?_
              refine Sx.regK1 (pc2 := 126) (L2 := fun (s126_4 : Int32) => [some (.ref a0), some (.int a1), some (.int a2), some (.int a3), some (.int x2), none, some (.int x6_20), some (.int x7_20), none, some (.int x9_88_3), none, none]) (st2 := fun (s126_4 : Int32) => [.int s126_4]) (h2 := fun (s126_4 : Int32) => h111) ?_ (fun Q4 hK4 => ?_)
              · intro s126_4
                show Sx K cX10_turnBand 126 [some (.ref a0), some (.int a1), some (.int a2), some (.int a3), some (.int x2), none, some (.int x6_20), some (.int x7_20), none, some (.int x9_88_3), none, none] [.int s126_4] h111 _ _
                refine S_istore (L' := [some (.ref a0), some (.int a1), some (.int a2), some (.int a3), some (.int x2), some (.int s126_4), some (.int x6_20), some (.int x7_20), none, some (.int x9_88_3), none, none]) (dc_X10_turnBand 67 rfl) rfl ?_
                refine S_iload (dc_X10_turnBand 68 rfl) rfl ?_
                refine S_iload (dc_X10_turnBand 69 rfl) rfl ?_
                refine Sx.regK1 (pc2 := 142) (L2 := fun (s142_5 : Int32) => [some (.ref a0), some (.int a1), some (.int a2), some (.int a3), some (.int x2), some (.int s126_4), none, some (.int x7_20), none, none, none, none]) (st2 := fun (s142_5 : Int32) => [.int s142_5]) (h2 := fun (s142_5 : Int32) => h111) ?_ (fun Q5 hK5 => ?_)
                · intro s142_5
                  show Sx K cX10_turnBand 142 [some (.ref a0), some (.int a1), some (.int a2), some (.int a3), some (.int x2), some (.int s126_4), none, some (.int x7_20), none, none, none, none] [.int s142_5] h111 _ _
                  refine S_istore (L' := [some (.ref a0), some (.int a1), some (.int a2), some (.int a3), some (.int x2), some (.int s126_4), some (.int s142_5), some (.int x7_20), none, none, none, none]) (dc_X10_turnBand 74 rfl) rfl ?_
                  refine S_iincN 1 (L' := fun x144 => [some (.ref a0), some (.int a1), some (.int a2), some (.int a3), some (.int x2), some (.int s126_4), some (.int s142_5), some (.int x144), none, none, none, none]) (dc_X10_turnBand 75 rfl) rfl rfl (fun _ => rfl) (fun x144 n144 => ?_)
                  refine S_goto 20 (dc_X10_turnBand 76 rfl) rfl ?_
                  exact ih1 s126_4 s142_5 x144 h111
                · have hK5 : ∀ (s142_5 : Int32), Sx K cX10_turnBand 142 [some (.ref a0), some (.int a1), some (.int a2), some (.int a3), some (.int x2), some (.int s126_4), none, some (.int x7_20), none, none, none, none] [.int s142_5] h111 (some s142_5) Q5 := hK5
                  refine S_icmp_ge 140 (dc_X10_turnBand 70 rfl) rfl (fun c132 => ?_) (fun c132 => ?_)
                  · refine S_iload (dc_X10_turnBand 73 rfl) rfl ?_
                    refine Sx.cut [true, true, true, true, true, true, false, true, true, false, true, true] ?_
                    exact hK5 x6_20
                  · refine S_iload (dc_X10_turnBand 71 rfl) rfl ?_
                    refine S_goto 142 (dc_X10_turnBand 72 rfl) rfl ?_
                    refine Sx.cut [true, true, true, true, true, true, false, true, true, false, true, true] ?_
                    exact hK5 x9_88_3
              · have hK4 : ∀ (s126_4 : Int32), Sx K cX10_turnBand 126 [some (.ref a0), some (.int a1), some (.int a2), some (.int a3), some (.int x2), none, some (.int x6_20), some (.int x7_20), none, some (.int x9_88_3), none, none] [.int s126_4] h111 (some s126_4) Q4 := hK4
                refine S_icmp_ge 124 (dc_X10_turnBand 63 rfl) rfl (fun c116 => ?_) (fun c116 => ?_)
                · refine S_iload (dc_X10_turnBand 66 rfl) rfl ?_
                  refine Sx.cut [true, true, true, true, true, false, true, true, false, true, true, true] ?_
                  exact hK4 x5_20
                · refine S_iload (dc_X10_turnBand 64 rfl) rfl ?_
                  refine S_goto 126 (dc_X10_turnBand 65 rfl) rfl ?_
                  refine Sx.cut [true, true, true, true, true, false, true, true, false, true, true, true] ?_
                  exact hK4 x8_88_3
            · have hK3 : ∀ (x8_88_3 : Int32) (x9_88_3 : Int32), Sx K cX10_turnBand 88 [some (.ref a0), some (.int a1), some (.int a2), some (.int a3), some (.int x2), some (.int x5_20), some (.int x6_20), some (.int x7_20), some (.int x8_88_3), some (.int x9_88_3), none, none] [] h_20 (some (x8_88_3, x9_88_3)) Q3 := hK3
              have ih3 : ∀ (n : Nat) (x8_63 : Int32) (x9_63 : Int32) (x10_63 : Int32), Sx K cX10_turnBand 63 [some (.ref a0), some (.int a1), some (.int a2), some (.int a3), some (.int x2), some (.int x5_20), some (.int x6_20), some (.int x7_20), some (.int x8_63), some (.int x9_63), some (.int x10_63), none] [] h_20 (lp_X10_turnBand_63 F a2 n x8_63 x9_63 x10_63) Q3 := by
                intro n
                induction n with
                | zero => intro x8_63 x9_63 x10_63; exact Sx.none
                | succ n ih3 =>
                  intro x8_63 x9_63 x10_63
                  rw [lp_X10_turnBand_63.eq_2]
                  refine S_iload (dc_X10_turnBand 33 rfl) rfl ?_
                  refine S_iload_n (dc_X10_turnBand 34 rfl) rfl ?_
                  refine S_icmp_ge 88 (dc_X10_turnBand 35 rfl) rfl (fun c66 => ?_) (fun c66 => ?_)
                  · refine Sx.cut [true, true, true, true, true, true, true, true, true, true, false, true] ?_
                    exact hK3 x8_63 x9_63
                  · refine S_iload (dc_X10_turnBand 36 rfl) rfl ?_
                    refine S_istore (L' := [some (.ref a0), some (.int a1), some (.int a2), some (.int a3), some (.int x2), some (.int x5_20), some (.int x6_20), some (.int x7_20), some (.int x8_63), some (.int x9_63), some (.int x10_63), some (.int x8_63)]) (dc_X10_turnBand 37 rfl) rfl ?_
                    refine S_iload (dc_X10_turnBand 38 rfl) rfl ?_
                    refine S_ineg (dc_X10_turnBand 39 rfl) ?_
                    refine Sx.nameI (fun x76 n76 => ?_)
                    refine S_istore (L' := [some (.ref a0), some (.int a1), some (.int a2), some (.int a3), some (.int x2), some (.int x5_20), some (.int x6_20), some (.int x7_20), some (.int x76), some (.int x9_63), some (.int x10_63), some (.int x8_63)]) (dc_X10_turnBand 40 rfl) rfl ?_
                    refine S_iload (dc_X10_turnBand 41 rfl) rfl ?_
                    refine S_istore (L' := [some (.ref a0), some (.int a1), some (.int a2), some (.int a3), some (.int x2), some (.int x5_20), some (.int x6_20), some (.int x7_20), some (.int x76), some (.int x8_63), some (.int x10_63), some (.int x8_63)]) (dc_X10_turnBand 42 rfl) rfl ?_
                    refine S_iincN 1 (L' := fun x82 => [some (.ref a0), some (.int a1), some (.int a2), some (.int a3), some (.int x2), some (.int x5_20), some (.int x6_20), some (.int x7_20), some (.int x76), some (.int x8_63), some (.int x82), some (.int x8_63)]) (dc_X10_turnBand 43 rfl) rfl rfl (fun _ => rfl) (fun x82 n82 => ?_)
                    refine S_goto 63 (dc_X10_turnBand 44 rfl) rfl ?_
                    refine Sx.cut [true, true, true, true, true, true, true, true, true, true, true, false] ?_
                    exact ih3 x76 x8_63 x82
              exact ih3 F s49_2 x55 0
          · have hK2 : ∀ (s49_2 : Int32), Sx K cX10_turnBand 49 [some (.ref a0), some (.int a1), some (.int a2), some (.int a3), some (.int x2), some (.int x5_20), some (.int x6_20), some (.int x7_20), none, none, none, none] [.int s49_2] h_20 (some s49_2) Q2 := hK2
            refine S_if_eq 42 (dc_X10_turnBand 14 rfl) rfl (fun c28 => ?_) (fun c28 => ?_)
            · refine S_aload_n (dc_X10_turnBand 21 rfl) rfl ?_
              refine S_iload_n (dc_X10_turnBand 22 rfl) rfl ?_
              refine S_iload (dc_X10_turnBand 23 rfl) rfl ?_
              refine Sx.ask (fun _ i46 => ?_)
              refine S_roI (d := k_d K - 1) (e_callV (b := a0) (As := [.int a1, .int x7_20]) (rest := []) ok_X10_x rfl (Nat.le_of_ble_eq_true rfl) (dc_X10_turnBand 24 rfl) ho q1815 q1817 (show e_cl[8]? = some (RX10, TX10, 51) from rfl) (e_sel.of qs58) (e_is_of i46) rfl (Nat.le_of_ble_eq_true rfl)) (by omega) (fun _ e => ct_X10_x (by omega) e) (fun x46 e46 => ?_)
              exact hK2 x46
            · refine S_aload_n (dc_X10_turnBand 15 rfl) rfl ?_
              refine S_iload_n (dc_X10_turnBand 16 rfl) rfl ?_
              refine S_iload (dc_X10_turnBand 17 rfl) rfl ?_
              refine Sx.ask (fun _ i35 => ?_)
              refine S_roI (d := k_d K - 1) (e_callV (b := a0) (As := [.int a1, .int x7_20]) (rest := []) ok_X10_x rfl (Nat.le_of_ble_eq_true rfl) (dc_X10_turnBand 18 rfl) ho q1815 q1817 (show e_cl[8]? = some (RX10, TX10, 51) from rfl) (e_sel.of qs58) (e_is_of i35) rfl (Nat.le_of_ble_eq_true rfl)) (by omega) (fun _ e => ct_X10_x (by omega) e) (fun x35 e35 => ?_)
              refine S_ineg (dc_X10_turnBand 19 rfl) ?_
              refine S_goto 49 (dc_X10_turnBand 20 rfl) rfl ?_
              exact hK2 (-x35)
    exact ih1 F 999 999 0 h
abbrev cX10_compare : ByteArray := prog_18_method_76_code
def yX10_compare : MethodName := ⟨"PegBandsModel", "compare", "([I[II)I"⟩
def tb_X10_compare : List (Nat × Instr × Nat) := [(0, .iconst 0, 1), (1, .istore_n 3, 1), (2, .iload_n 3, 1), (3, .iload_n 2, 1), (4, .if_icmp .ge 26, 3), (7, .aload_n 0, 1), (8, .iload_n 3, 1), (9, .iaload, 1), (10, .aload_n 1, 1), (11, .iload_n 3, 1), (12, .iaload, 1), (13, .if_icmp .eq 11, 3), (16, .aload_n 0, 1), (17, .iload_n 3, 1), (18, .iaload, 1), (19, .aload_n 1, 1), (20, .iload_n 3, 1), (21, .iaload, 1), (22, .isub, 1), (23, .ireturn, 1), (24, .iinc 3 1, 3), (27, .goto (-25), 3), (30, .iconst 0, 1), (31, .ireturn, 1)]
theorem tk_X10_compare : ∀ q ∈ tb_X10_compare, decode cX10_compare q.1 = .ok q.2 := by decide +kernel
theorem dc_X10_compare (k : Nat) {pc n : Nat} {i : Instr} (h : tb_X10_compare[k]? = some (pc, i, n)) : decode cX10_compare pc = .ok (i, n) := tk_X10_compare (pc, i, n) (List.mem_of_getElem? h)
abbrev mX10_compare : e_M := (yX10_compare, cX10_compare, 4, some (.int), [])
theorem ok_X10_compare : e_mok mX10_compare 3 := ⟨q1915, q119, by decide +kernel, fun sig h => by cases h; rfl⟩
def lp_X10_compare_2 (F : Nat) (h : e_H) (a0 : Nat) (a1 : Nat) (a2 : Int32) : Nat → Int32 → Option (Except Int32 Unit)
  | 0, _ => none
  | n + 1, x3_2 =>
    if a2 ≤ x3_2 then
      some (.ok ())
    else
      Option.bind (e_aI h a0 0 x3_2) (fun x9 =>
      Option.bind (e_aI h a1 0 x3_2) (fun x12 =>
      if x9 = x12 then
        Option.bind (some (x3_2 + 1)) (fun x24 =>
        lp_X10_compare_2 F h a0 a1 a2 n x24)
      else
        Option.bind (e_aI h a0 0 x3_2) (fun x18 =>
        Option.bind (e_aI h a1 0 x3_2) (fun x21 =>
        some (.error (x18 - x21))))))
def f_X10_compare (F : Nat) (h : e_H) (a0 : Nat) (a1 : Nat) (a2 : Int32) : Option Int32 :=
  e_bE (
      lp_X10_compare_2 F h a0 a1 a2 F 0
    : Option (Except Int32 Unit)) (fun _ =>
  some 0)
set_option maxHeartbeats 4000000 in
set_option maxRecDepth 100000 in
theorem ct_X10_compare {l : Launch} {D : e_D} {B : Heap} {F : Nat} {d : Nat} {h : e_H} {a0 : Nat} {a1 : Nat} {a2 : Int32} {v : Int32} (hd : 1 ≤ d) (e : f_X10_compare F h a0 a1 a2 = some v) : e_Run l D B d mX10_compare [.ref a0, .ref a1, .int a2] h (.ok (some (.int v)), h) := by
  refine e_start [some (.ref a0), some (.ref a1), some (.int a2), none] (by decide) rfl rfl rfl (Nat.le_of_ble_eq_true rfl) (fun K hl0 hD0 hB0 hM hd0 hr => ?_)
  subst hl0 hD0 hB0 hd0
  have ho : (k_M K).1.cls = "PegBandsModel" := by rw [hM]; rfl
  have hT : (k_M K).2.2.2.1 = some (.int) := by rw [hM]
  refine (show Sx K cX10_compare 0 [some (.ref a0), some (.ref a1), some (.int a2), none] [] h (f_X10_compare F h a0 a1 a2) (fun w => w = v) from ?_) _ e rfl
  clear e
  unfold f_X10_compare
  refine S_iconst_ 0 (dc_X10_compare 0 rfl) rfl ?_
  refine S_istore_n (L' := [some (.ref a0), some (.ref a1), some (.int a2), some (.int 0)]) (dc_X10_compare 1 rfl) rfl ?_
  refine Sx.regKE0 (pc2 := 30) (L2 := [none, none, none, none]) (st2 := []) (h2 := h) ?_ (fun Q1 hK1 hE1 => ?_)
  · skip
    refine S_iconst_ 0 (dc_X10_compare 22 rfl) rfl ?_
    exact S_iret (dc_X10_compare 23 rfl) hT rfl (fun q => by cases q; exact hr)
  · have hK1 : Sx K cX10_compare 30 [none, none, none, none] [] h (some (.ok ())) Q1 := hK1
    have ih1 : ∀ (n : Nat) (x3_2 : Int32), Sx K cX10_compare 2 [some (.ref a0), some (.ref a1), some (.int a2), some (.int x3_2)] [] h (lp_X10_compare_2 F h a0 a1 a2 n x3_2) Q1 := by
      intro n
      induction n with
      | zero => intro x3_2; exact Sx.none
      | succ n ih1 =>
        intro x3_2
        rw [lp_X10_compare_2.eq_2]
        refine S_iload_n (dc_X10_compare 2 rfl) rfl ?_
        refine S_iload_n (dc_X10_compare 3 rfl) rfl ?_
        refine S_icmp_ge 30 (dc_X10_compare 4 rfl) rfl (fun c4 => ?_) (fun c4 => ?_)
        · refine Sx.cut [false, false, false, false] ?_
          exact hK1
        · refine S_aload_n (dc_X10_compare 5 rfl) rfl ?_
          refine S_iload_n (dc_X10_compare 6 rfl) rfl ?_
          refine S_iald (dc_X10_compare 7 rfl) (fun x9 e9 => ?_)
          refine S_aload_n (dc_X10_compare 8 rfl) rfl ?_
          refine S_iload_n (dc_X10_compare 9 rfl) rfl ?_
          refine S_iald (dc_X10_compare 10 rfl) (fun x12 e12 => ?_)
          refine S_icmp_eq 24 (dc_X10_compare 11 rfl) rfl (fun c13 => ?_) (fun c13 => ?_)
          · refine S_iincN 1 (L' := fun x24 => [some (.ref a0), some (.ref a1), some (.int a2), some (.int x24)]) (dc_X10_compare 20 rfl) rfl rfl (fun _ => rfl) (fun x24 n24 => ?_)
            refine S_goto 2 (dc_X10_compare 21 rfl) rfl ?_
            exact ih1 x24
          · refine S_aload_n (dc_X10_compare 12 rfl) rfl ?_
            refine S_iload_n (dc_X10_compare 13 rfl) rfl ?_
            refine S_iald (dc_X10_compare 14 rfl) (fun x18 e18 => ?_)
            refine S_aload_n (dc_X10_compare 15 rfl) rfl ?_
            refine S_iload_n (dc_X10_compare 16 rfl) rfl ?_
            refine S_iald (dc_X10_compare 17 rfl) (fun x21 e21 => ?_)
            refine S_isub (dc_X10_compare 18 rfl) ?_
            refine Sx.err hE1 ?_
            exact S_iret (dc_X10_compare 19 rfl) hT rfl (fun q => by cases q; exact hr)
    exact ih1 F 0
abbrev cX10_leastRow : ByteArray := prog_18_method_77_code
def yX10_leastRow : MethodName := ⟨"PegBandsModel", "leastRow", "(IZ)V"⟩
def tb_X10_leastRow : List (Nat × Instr × Nat) := [(0, .iload_n 2, 1), (1, .istore_n 3, 1), (2, .iconst 0, 1), (3, .istore 4, 2), (5, .iload 4, 2), (7, .iload_n 1, 1), (8, .if_icmp .ge 150, 3), (11, .iconst 1, 1), (12, .istore 5, 2), (14, .iload 5, 2), (16, .iconst (-1), 1), (17, .if_icmp .lt 135, 3), (20, .iconst 0, 1), (21, .istore 6, 2), (23, .iload 6, 2), (25, .iload_n 1, 1), (26, .if_icmp .ge 63, 3), (29, .iload 4, 2), (31, .iload 5, 2), (33, .iload 6, 2), (35, .imul, 1), (36, .iadd, 1), (37, .iload_n 1, 1), (38, .iadd, 1), (39, .iload_n 1, 1), (40, .irem, 1), (41, .istore 7, 2), (43, .aload_n 0, 1), (44, .getfield 54, 3), (47, .iconst 2, 1), (48, .iload 6, 2), (50, .imul, 1), (51, .aload_n 0, 1), (52, .getfield 51, 3), (55, .iconst 2, 1), (56, .iload 7, 2), (58, .imul, 1), (59, .iaload, 1), (60, .iastore, 1), (61, .aload_n 0, 1), (62, .getfield 54, 3), (65, .iconst 2, 1), (66, .iload 6, 2), (68, .imul, 1), (69, .iconst 1, 1), (70, .iadd, 1), (71, .aload_n 0, 1), (72, .getfield 51, 3), (75, .iconst 2, 1), (76, .iload 7, 2), (78, .imul, 1), (79, .iconst 1, 1), (80, .iadd, 1), (81, .iaload, 1), (82, .iastore, 1), (83, .iinc 6 1, 3), (86, .goto (-63), 3), (89, .iload_n 3, 1), (90, .ifCond .ne 23, 3), (93, .aload_n 0, 1), (94, .getfield 54, 3), (97, .aload_n 0, 1), (98, .getfield 57, 3), (101, .iconst 2, 1), (102, .iload_n 1, 1), (103, .imul, 1), (104, .invokestatic 336, 3), (107, .ifCond .lt 6, 3), (110, .goto 36, 3), (113, .iconst 0, 1), (114, .istore_n 3, 1), (115, .iconst 0, 1), (116, .istore 6, 2), (118, .iload 6, 2), (120, .iconst 2, 1), (121, .iload_n 1, 1), (122, .imul, 1), (123, .if_icmp .ge 23, 3), (126, .aload_n 0, 1), (127, .getfield 57, 3), (130, .iload 6, 2), (132, .aload_n 0, 1), (133, .getfield 54, 3), (136, .iload 6, 2), (138, .iaload, 1), (139, .iastore, 1), (140, .iinc 6 1, 3), (143, .goto (-25), 3), (146, .iinc 5 (-2), 3), (149, .goto (-135), 3), (152, .iinc 4 1, 3), (155, .goto (-150), 3), (158, .return_, 1)]
theorem tk_X10_leastRow : ∀ q ∈ tb_X10_leastRow, decode cX10_leastRow q.1 = .ok q.2 := by decide +kernel
theorem dc_X10_leastRow (k : Nat) {pc n : Nat} {i : Instr} (h : tb_X10_leastRow[k]? = some (pc, i, n)) : decode cX10_leastRow pc = .ok (i, n) := tk_X10_leastRow (pc, i, n) (List.mem_of_getElem? h)
abbrev mX10_leastRow : e_M := (yX10_leastRow, cX10_leastRow, 8, none, [])
theorem ok_X10_leastRow : e_mok mX10_leastRow 2 := ⟨q1912, q119, by decide +kernel, fun sig h => by cases h; rfl⟩
def lp_X10_leastRow_23 (F : Nat) (a0 : Nat) (a1 : Int32) (x4_5 : Int32) (x5_14 : Int32) : Nat → Int32 → e_H → Option (e_H)
  | 0, _, _ => none
  | n + 1, x6_23, h_23 =>
    if a1 ≤ x6_23 then
      some h_23
    else
      if a1 = 0 then none else
      Option.bind (some (((x4_5 + (x5_14 * x6_23)) + a1) - ((x4_5 + (x5_14 * x6_23)) + a1) / a1 * a1)) (fun x41 =>
      Option.bind (e_fA h_23 a0 8 29) (fun x44 =>
      Option.bind (e_fA h_23 a0 8 28) (fun x52 =>
      Option.bind (e_aI h_23 x52 0 (2 * x41)) (fun x59 =>
      Option.bind (e_wI h_23 x44 0 (2 * x6_23) x59) (fun h60 =>
      Option.bind (e_fA h60 a0 8 29) (fun x62 =>
      Option.bind (e_fA h60 a0 8 28) (fun x72 =>
      Option.bind (e_aI h60 x72 0 ((2 * x41) + 1)) (fun x81 =>
      Option.bind (e_wI h60 x62 0 ((2 * x6_23) + 1) x81) (fun h82 =>
      Option.bind (some (x6_23 + 1)) (fun x83 =>
      lp_X10_leastRow_23 F a0 a1 x4_5 x5_14 n x83 h82))))))))))
def lp_X10_leastRow_118 (F : Nat) (a0 : Nat) (a1 : Int32) : Nat → Int32 → e_H → Option (e_H)
  | 0, _, _ => none
  | n + 1, x6_118, h_118 =>
    if (2 * a1) ≤ x6_118 then
      some h_118
    else
      Option.bind (e_fA h_118 a0 8 30) (fun x127 =>
      Option.bind (e_fA h_118 a0 8 29) (fun x133 =>
      Option.bind (e_aI h_118 x133 0 x6_118) (fun x138 =>
      Option.bind (e_wI h_118 x127 0 x6_118 x138) (fun h139 =>
      Option.bind (some (x6_118 + 1)) (fun x140 =>
      lp_X10_leastRow_118 F a0 a1 n x140 h139)))))
def lp_X10_leastRow_14 (F : Nat) (a0 : Nat) (a1 : Int32) (x4_5 : Int32) : Nat → Int32 → Int32 → e_H → Option ((Int32 × e_H))
  | 0, _, _, _ => none
  | n + 1, x3_14, x5_14, h_14 =>
    if x5_14 < (-1) then
      some (x3_14, h_14)
    else
      Option.bind (
          lp_X10_leastRow_23 F a0 a1 x4_5 x5_14 F 0 h_14
        : Option (e_H)) (fun h89_3 =>
      Option.bind (
          e_bE (
              if x3_14 = 0 then
                Option.bind (e_fA h89_3 a0 8 29) (fun x94 =>
                Option.bind (e_fA h89_3 a0 8 30) (fun x98 =>
                Option.bind (f_X10_compare F h89_3 x94 x98 (2 * a1)) (fun x104 =>
                if x104 < 0 then
                  some (.ok ())
                else
                  some (.error (x3_14, h89_3)))))
              else
                some (.ok ())
            : Option (Except (Int32 × e_H) Unit)) (fun _ =>
          Option.bind (
              lp_X10_leastRow_118 F a0 a1 F 0 h89_3
            : Option (e_H)) (fun h146_6 =>
          some (0, h146_6)))
        : Option ((Int32 × e_H))) (e_u2 (fun x3_146_4 h146_4 =>
      Option.bind (some (x5_14 + (-2))) (fun x146 =>
      lp_X10_leastRow_14 F a0 a1 x4_5 n x3_146_4 x146 h146_4))))
def lp_X10_leastRow_5 (F : Nat) (a0 : Nat) (a1 : Int32) : Nat → Int32 → Int32 → e_H → Option (e_H)
  | 0, _, _, _ => none
  | n + 1, x3_5, x4_5, h_5 =>
    if a1 ≤ x4_5 then
      some h_5
    else
      Option.bind (
          lp_X10_leastRow_14 F a0 a1 x4_5 F x3_5 1 h_5
        : Option ((Int32 × e_H))) (e_u2 (fun x3_152_2 h152_2 =>
      Option.bind (some (x4_5 + 1)) (fun x152 =>
      lp_X10_leastRow_5 F a0 a1 n x3_152_2 x152 h152_2)))
def f_X10_leastRow (F : Nat) (h : e_H) (a0 : Nat) (a1 : Int32) (a2 : Int32) : Option e_H :=
  Option.bind (
      lp_X10_leastRow_5 F a0 a1 F a2 0 h
    : Option (e_H)) (fun h158_1 =>
  some h158_1)
set_option maxHeartbeats 4000000 in
set_option maxRecDepth 100000 in
theorem ct_X10_leastRow {l : Launch} {D : e_D} {B : Heap} {F : Nat} {d : Nat} {h : e_H} {a0 : Nat} {a1 : Int32} {a2 : Int32} {h1 : e_H} (hd : 2 ≤ d) (e : f_X10_leastRow F h a0 a1 a2 = some h1) : e_Run l D B d mX10_leastRow [.ref a0, .int a1, .int a2] h (.ok none, h1) := by
  refine e_start [some (.ref a0), some (.int a1), some (.int a2), none, none, none, none, none] (by decide) rfl rfl rfl (Nat.le_of_ble_eq_true rfl) (fun K hl0 hD0 hB0 hM hd0 hr => ?_)
  subst hl0 hD0 hB0 hd0
  have ho : (k_M K).1.cls = "PegBandsModel" := by rw [hM]; rfl
  have hT : (k_M K).2.2.2.1 = none := by rw [hM]
  refine (show Sx K cX10_leastRow 0 [some (.ref a0), some (.int a1), some (.int a2), none, none, none, none, none] [] h (f_X10_leastRow F h a0 a1 a2) (fun w => w = h1) from ?_) _ e rfl
  clear e
  unfold f_X10_leastRow
  refine S_iload_n (dc_X10_leastRow 0 rfl) rfl ?_
  refine S_istore_n (L' := [some (.ref a0), some (.int a1), some (.int a2), some (.int a2), none, none, none, none]) (dc_X10_leastRow 1 rfl) rfl ?_
  refine S_iconst_ 0 (dc_X10_leastRow 2 rfl) rfl ?_
  refine S_istore (L' := [some (.ref a0), some (.int a1), some (.int a2), some (.int a2), some (.int 0), none, none, none]) (dc_X10_leastRow 3 rfl) rfl ?_
  refine Sx.regK1 (pc2 := 158) (L2 := fun (h158_1 : e_H) => [none, none, none, none, none, none, none, none]) (st2 := fun (h158_1 : e_H) => []) (h2 := fun (h158_1 : e_H) => h158_1) ?_ (fun Q1 hK1 => ?_)
  · intro h158_1
    show Sx K cX10_leastRow 158 [none, none, none, none, none, none, none, none] [] h158_1 _ _
    exact S_vret (dc_X10_leastRow 92 rfl) hT (fun q => by cases q; exact hr)
  · have hK1 : ∀ (h158_1 : e_H), Sx K cX10_leastRow 158 [none, none, none, none, none, none, none, none] [] h158_1 (some h158_1) Q1 := hK1
    have ih1 : ∀ (n : Nat) (x3_5 : Int32) (x4_5 : Int32) (h_5 : e_H), Sx K cX10_leastRow 5 [some (.ref a0), some (.int a1), none, some (.int x3_5), some (.int x4_5), none, none, none] [] h_5 (lp_X10_leastRow_5 F a0 a1 n x3_5 x4_5 h_5) Q1 := by
      intro n
      induction n with
      | zero => intro x3_5 x4_5 h_5; exact Sx.none
      | succ n ih1 =>
        intro x3_5 x4_5 h_5
        rw [lp_X10_leastRow_5.eq_2]
        refine S_iload (dc_X10_leastRow 4 rfl) rfl ?_
        refine S_iload_n (dc_X10_leastRow 5 rfl) rfl ?_
        refine S_icmp_ge 158 (dc_X10_leastRow 6 rfl) rfl (fun c8 => ?_) (fun c8 => ?_)
        · refine Sx.cut [false, false, true, false, false, true, true, true] ?_
          exact hK1 h_5
        · refine S_iconst_ 1 (dc_X10_leastRow 7 rfl) rfl ?_
          refine S_istore (L' := [some (.ref a0), some (.int a1), none, some (.int x3_5), some (.int x4_5), some (.int 1), none, none]) (dc_X10_leastRow 8 rfl) rfl ?_
          refine Sx.regK2 (pc2 := 152) (L2 := fun (x3_152_2 : Int32) (h152_2 : e_H) => [some (.ref a0), some (.int a1), none, some (.int x3_152_2), some (.int x4_5), none, none, none]) (st2 := fun (x3_152_2 : Int32) (h152_2 : e_H) => []) (h2 := fun (x3_152_2 : Int32) (h152_2 : e_H) => h152_2) ?_ (fun Q2 hK2 => ?_)
          · intro x3_152_2 h152_2
            show Sx K cX10_leastRow 152 [some (.ref a0), some (.int a1), none, some (.int x3_152_2), some (.int x4_5), none, none, none] [] h152_2 _ _
            refine S_iincN 1 (L' := fun x152 => [some (.ref a0), some (.int a1), none, some (.int x3_152_2), some (.int x152), none, none, none]) (dc_X10_leastRow 90 rfl) rfl rfl (fun _ => rfl) (fun x152 n152 => ?_)
            refine S_goto 5 (dc_X10_leastRow 91 rfl) rfl ?_
            exact ih1 x3_152_2 x152 h152_2
          · have hK2 : ∀ (x3_152_2 : Int32) (h152_2 : e_H), Sx K cX10_leastRow 152 [some (.ref a0), some (.int a1), none, some (.int x3_152_2), some (.int x4_5), none, none, none] [] h152_2 (some (x3_152_2, h152_2)) Q2 := hK2
            have ih2 : ∀ (n : Nat) (x3_14 : Int32) (x5_14 : Int32) (h_14 : e_H), Sx K cX10_leastRow 14 [some (.ref a0), some (.int a1), none, some (.int x3_14), some (.int x4_5), some (.int x5_14), none, none] [] h_14 (lp_X10_leastRow_14 F a0 a1 x4_5 n x3_14 x5_14 h_14) Q2 := by
              intro n
              induction n with
              | zero => intro x3_14 x5_14 h_14; exact Sx.none
              | succ n ih2 =>
                intro x3_14 x5_14 h_14
                rw [lp_X10_leastRow_14.eq_2]
                refine S_iload (dc_X10_leastRow 9 rfl) rfl ?_
                refine S_iconst_ (-1) (dc_X10_leastRow 10 rfl) rfl ?_
                refine S_icmp_lt 152 (dc_X10_leastRow 11 rfl) rfl (fun c17 => ?_) (fun c17 => ?_)
                · refine Sx.cut [true, true, true, true, true, false, true, true] ?_
                  exact hK2 x3_14 h_14
                · refine S_iconst_ 0 (dc_X10_leastRow 12 rfl) rfl ?_
                  refine S_istore (L' := [some (.ref a0), some (.int a1), none, some (.int x3_14), some (.int x4_5), some (.int x5_14), some (.int 0), none]) (dc_X10_leastRow 13 rfl) rfl ?_
                  refine Sx.regK1 (pc2 := 89) (L2 := fun (h89_3 : e_H) => [some (.ref a0), some (.int a1), none, some (.int x3_14), some (.int x4_5), some (.int x5_14), none, none]) (st2 := fun (h89_3 : e_H) => []) (h2 := fun (h89_3 : e_H) => h89_3) ?_ (fun Q3 hK3 => ?_)
                  · intro h89_3
                    show Sx K cX10_leastRow 89 [some (.ref a0), some (.int a1), none, some (.int x3_14), some (.int x4_5), some (.int x5_14), none, none] [] h89_3 _ _
                    refine S_iload_n (dc_X10_leastRow 57 rfl) rfl ?_
                    refine Sx.regK2 (pc2 := 146) (L2 := fun (x3_146_4 : Int32) (h146_4 : e_H) => [some (.ref a0), some (.int a1), none, some (.int x3_146_4), some (.int x4_5), some (.int x5_14), none, none]) (st2 := fun (x3_146_4 : Int32) (h146_4 : e_H) => []) (h2 := fun (x3_146_4 : Int32) (h146_4 : e_H) => h146_4) ?_ (fun Q4 hK4 => ?_)
                    · intro x3_146_4 h146_4
                      show Sx K cX10_leastRow 146 [some (.ref a0), some (.int a1), none, some (.int x3_146_4), some (.int x4_5), some (.int x5_14), none, none] [] h146_4 _ _
                      refine S_iincN (-2) (L' := fun x146 => [some (.ref a0), some (.int a1), none, some (.int x3_146_4), some (.int x4_5), some (.int x146), none, none]) (dc_X10_leastRow 88 rfl) rfl rfl (fun _ => rfl) (fun x146 n146 => ?_)
                      refine S_goto 14 (dc_X10_leastRow 89 rfl) rfl ?_
                      exact ih2 x3_146_4 x146 h146_4
                    · have hK4 : ∀ (x3_146_4 : Int32) (h146_4 : e_H), Sx K cX10_leastRow 146 [some (.ref a0), some (.int a1), none, some (.int x3_146_4), some (.int x4_5), some (.int x5_14), none, none] [] h146_4 (some (x3_146_4, h146_4)) Q4 := hK4
                      refine Sx.regKE0 (pc2 := 113) (L2 := [some (.ref a0), some (.int a1), none, none, some (.int x4_5), some (.int x5_14), none, none]) (st2 := []) (h2 := h89_3) ?_ (fun Q5 hK5 hE5 => ?_)
                      · skip
                        refine S_iconst_ 0 (dc_X10_leastRow 69 rfl) rfl ?_
                        refine S_istore_n (L' := [some (.ref a0), some (.int a1), none, some (.int 0), some (.int x4_5), some (.int x5_14), none, none]) (dc_X10_leastRow 70 rfl) rfl ?_
                        refine S_iconst_ 0 (dc_X10_leastRow 71 rfl) rfl ?_
                        refine S_istore (L' := [some (.ref a0), some (.int a1), none, some (.int 0), some (.int x4_5), some (.int x5_14), some (.int 0), none]) (dc_X10_leastRow 72 rfl) rfl ?_
                        refine Sx.regK1 (pc2 := 146) (L2 := fun (h146_6 : e_H) => [some (.ref a0), some (.int a1), none, some (.int 0), some (.int x4_5), some (.int x5_14), none, none]) (st2 := fun (h146_6 : e_H) => []) (h2 := fun (h146_6 : e_H) => h146_6) ?_ (fun Q6 hK6 => ?_)
                        · intro h146_6
                          show Sx K cX10_leastRow 146 [some (.ref a0), some (.int a1), none, some (.int 0), some (.int x4_5), some (.int x5_14), none, none] [] h146_6 _ _
                          exact hK4 0 h146_6
                        · have hK6 : ∀ (h146_6 : e_H), Sx K cX10_leastRow 146 [some (.ref a0), some (.int a1), none, some (.int 0), some (.int x4_5), some (.int x5_14), none, none] [] h146_6 (some h146_6) Q6 := hK6
                          have ih6 : ∀ (n : Nat) (x6_118 : Int32) (h_118 : e_H), Sx K cX10_leastRow 118 [some (.ref a0), some (.int a1), none, some (.int 0), some (.int x4_5), some (.int x5_14), some (.int x6_118), none] [] h_118 (lp_X10_leastRow_118 F a0 a1 n x6_118 h_118) Q6 := by
                            intro n
                            induction n with
                            | zero => intro x6_118 h_118; exact Sx.none
                            | succ n ih6 =>
                              intro x6_118 h_118
                              rw [lp_X10_leastRow_118.eq_2]
                              refine S_iload (dc_X10_leastRow 73 rfl) rfl ?_
                              refine S_iconst_ 2 (dc_X10_leastRow 74 rfl) rfl ?_
                              refine S_iload_n (dc_X10_leastRow 75 rfl) rfl ?_
                              refine S_imul (dc_X10_leastRow 76 rfl) ?_
                              refine S_icmp_ge 146 (dc_X10_leastRow 77 rfl) rfl (fun c123 => ?_) (fun c123 => ?_)
                              · refine Sx.cut [true, true, true, true, true, true, false, true] ?_
                                exact hK6 h_118
                              · refine S_aload_n (dc_X10_leastRow 78 rfl) rfl ?_
                                refine S_getA (dc_X10_leastRow 79 rfl) ho fl_X10_57_8_30 (fun _ _ => rfl) (fun x127 e127 => ?_)
                                refine S_iload (dc_X10_leastRow 80 rfl) rfl ?_
                                refine S_aload_n (dc_X10_leastRow 81 rfl) rfl ?_
                                refine S_getA (dc_X10_leastRow 82 rfl) ho fl_X10_54_8_29 (fun _ _ => rfl) (fun x133 e133 => ?_)
                                refine S_iload (dc_X10_leastRow 83 rfl) rfl ?_
                                refine S_iald (dc_X10_leastRow 84 rfl) (fun x138 e138 => ?_)
                                refine S_iast (dc_X10_leastRow 85 rfl) (fun h139 e139 => ?_)
                                refine S_iincN 1 (L' := fun x140 => [some (.ref a0), some (.int a1), none, some (.int 0), some (.int x4_5), some (.int x5_14), some (.int x140), none]) (dc_X10_leastRow 86 rfl) rfl rfl (fun _ => rfl) (fun x140 n140 => ?_)
                                refine S_goto 118 (dc_X10_leastRow 87 rfl) rfl ?_
                                exact ih6 x140 h139
                          exact ih6 F 0 h89_3
                      · have hK5 : Sx K cX10_leastRow 113 [some (.ref a0), some (.int a1), none, none, some (.int x4_5), some (.int x5_14), none, none] [] h89_3 (some (.ok ())) Q5 := hK5
                        refine S_if_ne 113 (dc_X10_leastRow 58 rfl) rfl (fun c90 => ?_) (fun c90 => ?_)
                        · refine Sx.cut [true, true, true, false, true, true, true, true] ?_
                          exact hK5
                        · refine S_aload_n (dc_X10_leastRow 59 rfl) rfl ?_
                          refine S_getA (dc_X10_leastRow 60 rfl) ho fl_X10_54_8_29 (fun _ _ => rfl) (fun x94 e94 => ?_)
                          refine S_aload_n (dc_X10_leastRow 61 rfl) rfl ?_
                          refine S_getA (dc_X10_leastRow 62 rfl) ho fl_X10_57_8_30 (fun _ _ => rfl) (fun x98 e98 => ?_)
                          refine S_iconst_ 2 (dc_X10_leastRow 63 rfl) rfl ?_
                          refine S_iload_n (dc_X10_leastRow 64 rfl) rfl ?_
                          refine S_imul (dc_X10_leastRow 65 rfl) ?_
                          refine S_roI (d := k_d K - 1) (e_callS (As := [.ref x94, .ref x98, .int (2 * a1)]) (rest := []) ok_X10_compare rfl (Nat.le_of_ble_eq_true rfl) (dc_X10_leastRow 66 rfl) ho q1913 q1914 rfl (Nat.le_of_ble_eq_true rfl)) (by omega) (fun _ e => ct_X10_compare (by omega) e) (fun x104 e104 => ?_)
                          refine S_if_lt 113 (dc_X10_leastRow 67 rfl) rfl (fun c107 => ?_) (fun c107 => ?_)
                          · refine Sx.cut [true, true, true, false, true, true, true, true] ?_
                            exact hK5
                          · refine S_goto 146 (dc_X10_leastRow 68 rfl) rfl ?_
                            refine Sx.err hE5 ?_
                            exact hK4 x3_14 h89_3
                  · have hK3 : ∀ (h89_3 : e_H), Sx K cX10_leastRow 89 [some (.ref a0), some (.int a1), none, some (.int x3_14), some (.int x4_5), some (.int x5_14), none, none] [] h89_3 (some h89_3) Q3 := hK3
                    have ih3 : ∀ (n : Nat) (x6_23 : Int32) (h_23 : e_H), Sx K cX10_leastRow 23 [some (.ref a0), some (.int a1), none, some (.int x3_14), some (.int x4_5), some (.int x5_14), some (.int x6_23), none] [] h_23 (lp_X10_leastRow_23 F a0 a1 x4_5 x5_14 n x6_23 h_23) Q3 := by
                      intro n
                      induction n with
                      | zero => intro x6_23 h_23; exact Sx.none
                      | succ n ih3 =>
                        intro x6_23 h_23
                        rw [lp_X10_leastRow_23.eq_2]
                        refine S_iload (dc_X10_leastRow 14 rfl) rfl ?_
                        refine S_iload_n (dc_X10_leastRow 15 rfl) rfl ?_
                        refine S_icmp_ge 89 (dc_X10_leastRow 16 rfl) rfl (fun c26 => ?_) (fun c26 => ?_)
                        · refine Sx.cut [true, true, true, true, true, true, false, true] ?_
                          exact hK3 h_23
                        · refine S_iload (dc_X10_leastRow 17 rfl) rfl ?_
                          refine S_iload (dc_X10_leastRow 18 rfl) rfl ?_
                          refine S_iload (dc_X10_leastRow 19 rfl) rfl ?_
                          refine S_imul (dc_X10_leastRow 20 rfl) ?_
                          refine S_iadd (dc_X10_leastRow 21 rfl) ?_
                          refine S_iload_n (dc_X10_leastRow 22 rfl) rfl ?_
                          refine S_iadd (dc_X10_leastRow 23 rfl) ?_
                          refine S_iload_n (dc_X10_leastRow 24 rfl) rfl ?_
                          refine Sx.ncond (fun c40 => ?_)
                          refine S_irem (dc_X10_leastRow 25 rfl) c40 ?_
                          refine Sx.nameI (fun x41 n41 => ?_)
                          refine S_istore (L' := [some (.ref a0), some (.int a1), none, some (.int x3_14), some (.int x4_5), some (.int x5_14), some (.int x6_23), some (.int x41)]) (dc_X10_leastRow 26 rfl) rfl ?_
                          refine S_aload_n (dc_X10_leastRow 27 rfl) rfl ?_
                          refine S_getA (dc_X10_leastRow 28 rfl) ho fl_X10_54_8_29 (fun _ _ => rfl) (fun x44 e44 => ?_)
                          refine S_iconst_ 2 (dc_X10_leastRow 29 rfl) rfl ?_
                          refine S_iload (dc_X10_leastRow 30 rfl) rfl ?_
                          refine S_imul (dc_X10_leastRow 31 rfl) ?_
                          refine S_aload_n (dc_X10_leastRow 32 rfl) rfl ?_
                          refine S_getA (dc_X10_leastRow 33 rfl) ho fl_X10_51_8_28 (fun _ _ => rfl) (fun x52 e52 => ?_)
                          refine S_iconst_ 2 (dc_X10_leastRow 34 rfl) rfl ?_
                          refine S_iload (dc_X10_leastRow 35 rfl) rfl ?_
                          refine S_imul (dc_X10_leastRow 36 rfl) ?_
                          refine S_iald (dc_X10_leastRow 37 rfl) (fun x59 e59 => ?_)
                          refine S_iast (dc_X10_leastRow 38 rfl) (fun h60 e60 => ?_)
                          refine S_aload_n (dc_X10_leastRow 39 rfl) rfl ?_
                          refine S_getA (dc_X10_leastRow 40 rfl) ho fl_X10_54_8_29 (fun _ _ => rfl) (fun x62 e62 => ?_)
                          refine S_iconst_ 2 (dc_X10_leastRow 41 rfl) rfl ?_
                          refine S_iload (dc_X10_leastRow 42 rfl) rfl ?_
                          refine S_imul (dc_X10_leastRow 43 rfl) ?_
                          refine S_iconst_ 1 (dc_X10_leastRow 44 rfl) rfl ?_
                          refine S_iadd (dc_X10_leastRow 45 rfl) ?_
                          refine S_aload_n (dc_X10_leastRow 46 rfl) rfl ?_
                          refine S_getA (dc_X10_leastRow 47 rfl) ho fl_X10_51_8_28 (fun _ _ => rfl) (fun x72 e72 => ?_)
                          refine S_iconst_ 2 (dc_X10_leastRow 48 rfl) rfl ?_
                          refine S_iload (dc_X10_leastRow 49 rfl) rfl ?_
                          refine S_imul (dc_X10_leastRow 50 rfl) ?_
                          refine S_iconst_ 1 (dc_X10_leastRow 51 rfl) rfl ?_
                          refine S_iadd (dc_X10_leastRow 52 rfl) ?_
                          refine S_iald (dc_X10_leastRow 53 rfl) (fun x81 e81 => ?_)
                          refine S_iast (dc_X10_leastRow 54 rfl) (fun h82 e82 => ?_)
                          refine S_iincN 1 (L' := fun x83 => [some (.ref a0), some (.int a1), none, some (.int x3_14), some (.int x4_5), some (.int x5_14), some (.int x83), some (.int x41)]) (dc_X10_leastRow 55 rfl) rfl rfl (fun _ => rfl) (fun x83 n83 => ?_)
                          refine S_goto 23 (dc_X10_leastRow 56 rfl) rfl ?_
                          refine Sx.cut [true, true, true, true, true, true, true, false] ?_
                          exact ih3 x83 h82
                    exact ih3 F 0 h_14
            exact ih2 F x3_5 1 h_5
    refine Sx.cut [true, true, false, true, true, true, true, true] ?_
    exact ih1 F a2 0 h
abbrev cX10_layForm : ByteArray := prog_18_method_78_code
def yX10_layForm : MethodName := ⟨"PegBandsModel", "layForm", "(II)V"⟩
def tb_X10_layForm : List (Nat × Instr × Nat) := [(0, .iconst 0, 1), (1, .istore_n 3, 1), (2, .iload_n 3, 1), (3, .iload_n 2, 1), (4, .ifCond .ne 7, 3), (7, .iconst 1, 1), (8, .goto 4, 3), (11, .iconst 4, 1), (12, .if_icmp .ge 59, 3), (15, .aload_n 0, 1), (16, .iload_n 1, 1), (17, .iload_n 3, 1), (18, .iconst 0, 1), (19, .invokevirtual 340, 3), (22, .aload_n 0, 1), (23, .aload_n 0, 1), (24, .iload_n 1, 1), (25, .invokevirtual 279, 3), (28, .iload_n 3, 1), (29, .ifCond .ne 7, 3), (32, .iconst 1, 1), (33, .goto 4, 3), (36, .iconst 0, 1), (37, .invokevirtual 344, 3), (40, .iload_n 2, 1), (41, .iconst 2, 1), (42, .if_icmp .ge 6, 3), (45, .goto 20, 3), (48, .aload_n 0, 1), (49, .iload_n 1, 1), (50, .iload_n 3, 1), (51, .iconst 1, 1), (52, .invokevirtual 340, 3), (55, .aload_n 0, 1), (56, .aload_n 0, 1), (57, .iload_n 1, 1), (58, .invokevirtual 279, 3), (61, .iconst 0, 1), (62, .invokevirtual 344, 3), (65, .iinc 3 1, 3), (68, .goto (-66), 3), (71, .return_, 1)]
theorem tk_X10_layForm : ∀ q ∈ tb_X10_layForm, decode cX10_layForm q.1 = .ok q.2 := by decide +kernel
theorem dc_X10_layForm (k : Nat) {pc n : Nat} {i : Instr} (h : tb_X10_layForm[k]? = some (pc, i, n)) : decode cX10_layForm pc = .ok (i, n) := tk_X10_layForm (pc, i, n) (List.mem_of_getElem? h)
abbrev mX10_layForm : e_M := (yX10_layForm, cX10_layForm, 4, none, [])
theorem ok_X10_layForm : e_mok mX10_layForm 2 := ⟨q1904, q119, by decide +kernel, fun sig h => by cases h; rfl⟩
def lp_X10_layForm_2 (F : Nat) (a0 : Nat) (a1 : Int32) (a2 : Int32) : Nat → Int32 → e_H → Option (e_H)
  | 0, _, _ => none
  | n + 1, x3_2, h_2 =>
    Option.bind (
        if a2 = 0 then
          some 1
        else
          some 4
      : Option (Int32)) (fun s12_2 =>
    if s12_2 ≤ x3_2 then
      some h_2
    else
      Option.bind (e_is h_2 a0 8) (fun _ =>
      Option.bind (f_X10_turnBand F h_2 a0 a1 x3_2 0) (fun h19 =>
      Option.bind (e_is h19 a0 8) (fun _ =>
      Option.bind (f_X10_corners h19 a0 a1) (fun x25 =>
      Option.bind (
          if x3_2 = 0 then
            some 1
          else
            some 0
        : Option (Int32)) (fun s37_3 =>
      Option.bind (f_X10_leastRow F h19 a0 x25 s37_3) (fun h37 =>
      Option.bind (
          if 2 ≤ a2 then
            Option.bind (e_is h37 a0 8) (fun _ =>
            Option.bind (f_X10_turnBand F h37 a0 a1 x3_2 1) (fun h52 =>
            Option.bind (e_is h52 a0 8) (fun _ =>
            Option.bind (f_X10_corners h52 a0 a1) (fun x58 =>
            Option.bind (f_X10_leastRow F h52 a0 x58 0) (fun h62 =>
            some h62)))))
          else
            some h37
        : Option (e_H)) (fun h65_4 =>
      Option.bind (some (x3_2 + 1)) (fun x65 =>
      lp_X10_layForm_2 F a0 a1 a2 n x65 h65_4)))))))))
def f_X10_layForm (F : Nat) (h : e_H) (a0 : Nat) (a1 : Int32) (a2 : Int32) : Option e_H :=
  Option.bind (
      lp_X10_layForm_2 F a0 a1 a2 F 0 h
    : Option (e_H)) (fun h71_1 =>
  some h71_1)
set_option maxHeartbeats 4000000 in
set_option maxRecDepth 100000 in
theorem ct_X10_layForm {l : Launch} {D : e_D} {B : Heap} {F : Nat} {d : Nat} {h : e_H} {a0 : Nat} {a1 : Int32} {a2 : Int32} {h1 : e_H} (hd : 5 ≤ d) (e : f_X10_layForm F h a0 a1 a2 = some h1) : e_Run l D B d mX10_layForm [.ref a0, .int a1, .int a2] h (.ok none, h1) := by
  refine e_start [some (.ref a0), some (.int a1), some (.int a2), none] (by decide) rfl rfl rfl (Nat.le_of_ble_eq_true rfl) (fun K hl0 hD0 hB0 hM hd0 hr => ?_)
  subst hl0 hD0 hB0 hd0
  have ho : (k_M K).1.cls = "PegBandsModel" := by rw [hM]; rfl
  have hT : (k_M K).2.2.2.1 = none := by rw [hM]
  refine (show Sx K cX10_layForm 0 [some (.ref a0), some (.int a1), some (.int a2), none] [] h (f_X10_layForm F h a0 a1 a2) (fun w => w = h1) from ?_) _ e rfl
  clear e
  unfold f_X10_layForm
  refine S_iconst_ 0 (dc_X10_layForm 0 rfl) rfl ?_
  refine S_istore_n (L' := [some (.ref a0), some (.int a1), some (.int a2), some (.int 0)]) (dc_X10_layForm 1 rfl) rfl ?_
  refine Sx.regK1 (pc2 := 71) (L2 := fun (h71_1 : e_H) => [none, none, none, none]) (st2 := fun (h71_1 : e_H) => []) (h2 := fun (h71_1 : e_H) => h71_1) ?_ (fun Q1 hK1 => ?_)
  · intro h71_1
    show Sx K cX10_layForm 71 [none, none, none, none] [] h71_1 _ _
    exact S_vret (dc_X10_layForm 41 rfl) hT (fun q => by cases q; exact hr)
  · have hK1 : ∀ (h71_1 : e_H), Sx K cX10_layForm 71 [none, none, none, none] [] h71_1 (some h71_1) Q1 := hK1
    have ih1 : ∀ (n : Nat) (x3_2 : Int32) (h_2 : e_H), Sx K cX10_layForm 2 [some (.ref a0), some (.int a1), some (.int a2), some (.int x3_2)] [] h_2 (lp_X10_layForm_2 F a0 a1 a2 n x3_2 h_2) Q1 := by
      intro n
      induction n with
      | zero => intro x3_2 h_2; exact Sx.none
      | succ n ih1 =>
        intro x3_2 h_2
        rw [lp_X10_layForm_2.eq_2]
        refine S_iload_n (dc_X10_layForm 2 rfl) rfl ?_
        refine S_iload_n (dc_X10_layForm 3 rfl) rfl ?_
        refine Sx.regK1 (pc2 := 12) (L2 := fun (s12_2 : Int32) => [some (.ref a0), some (.int a1), some (.int a2), some (.int x3_2)]) (st2 := fun (s12_2 : Int32) => [.int s12_2, .int x3_2]) (h2 := fun (s12_2 : Int32) => h_2) ?_ (fun Q2 hK2 => ?_)
        · intro s12_2
          show Sx K cX10_layForm 12 [some (.ref a0), some (.int a1), some (.int a2), some (.int x3_2)] [.int s12_2, .int x3_2] h_2 _ _
          refine S_icmp_ge 71 (dc_X10_layForm 8 rfl) rfl (fun c12 => ?_) (fun c12 => ?_)
          · refine Sx.cut [false, false, false, false] ?_
            exact hK1 h_2
          · refine S_aload_n (dc_X10_layForm 9 rfl) rfl ?_
            refine S_iload_n (dc_X10_layForm 10 rfl) rfl ?_
            refine S_iload_n (dc_X10_layForm 11 rfl) rfl ?_
            refine S_iconst_ 0 (dc_X10_layForm 12 rfl) rfl ?_
            refine Sx.ask (fun _ i19 => ?_)
            refine S_rwV (d := k_d K - 1) (e_callV (b := a0) (As := [.int a1, .int x3_2, .int 0]) (rest := []) ok_X10_turnBand rfl (Nat.le_of_ble_eq_true rfl) (dc_X10_layForm 13 rfl) ho q1905 q1907 (show e_cl[8]? = some (RX10, TX10, 51) from rfl) (e_sel.of qs71) (e_is_of i19) rfl (Nat.le_of_ble_eq_true rfl)) (by omega) (fun _ e => ct_X10_turnBand (by omega) e) (fun h19 e19 => ?_)
            refine S_aload_n (dc_X10_layForm 14 rfl) rfl ?_
            refine S_aload_n (dc_X10_layForm 15 rfl) rfl ?_
            refine S_iload_n (dc_X10_layForm 16 rfl) rfl ?_
            refine Sx.ask (fun _ i25 => ?_)
            refine S_roI (d := k_d K - 1) (e_callV (b := a0) (As := [.int a1]) (rest := [.ref a0]) ok_X10_corners rfl (Nat.le_of_ble_eq_true rfl) (dc_X10_layForm 17 rfl) ho q1803 q1805 (show e_cl[8]? = some (RX10, TX10, 51) from rfl) (e_sel.of qs55) (e_is_of i25) rfl (Nat.le_of_ble_eq_true rfl)) (by omega) (fun _ e => ct_X10_corners (by omega) e) (fun x25 e25 => ?_)
            refine S_iload_n (dc_X10_layForm 18 rfl) rfl ?_
            refine Sx.regK1 (pc2 := 37) (L2 := fun (s37_3 : Int32) => [some (.ref a0), some (.int a1), some (.int a2), some (.int x3_2)]) (st2 := fun (s37_3 : Int32) => [.int s37_3, .int x25, .ref a0]) (h2 := fun (s37_3 : Int32) => h19) ?_ (fun Q3 hK3 => ?_)
            · intro s37_3
              show Sx K cX10_layForm 37 [some (.ref a0), some (.int a1), some (.int a2), some (.int x3_2)] [.int s37_3, .int x25, .ref a0] h19 _ _
              refine S_rwV (d := k_d K - 1) (e_callV (b := a0) (As := [.int x25, .int s37_3]) (rest := []) ok_X10_leastRow rfl (Nat.le_of_ble_eq_true rfl) (dc_X10_layForm 23 rfl) ho q1909 q1911 (show e_cl[8]? = some (RX10, TX10, 51) from rfl) (e_sel.of qs72) (e_is_of i25) rfl (Nat.le_of_ble_eq_true rfl)) (by omega) (fun _ e => ct_X10_leastRow (by omega) e) (fun h37 e37 => ?_)
              refine S_iload_n (dc_X10_layForm 24 rfl) rfl ?_
              refine S_iconst_ 2 (dc_X10_layForm 25 rfl) rfl ?_
              refine Sx.regK1 (pc2 := 65) (L2 := fun (h65_4 : e_H) => [some (.ref a0), some (.int a1), some (.int a2), some (.int x3_2)]) (st2 := fun (h65_4 : e_H) => []) (h2 := fun (h65_4 : e_H) => h65_4) ?_ (fun Q4 hK4 => ?_)
              · intro h65_4
                show Sx K cX10_layForm 65 [some (.ref a0), some (.int a1), some (.int a2), some (.int x3_2)] [] h65_4 _ _
                refine S_iincN 1 (L' := fun x65 => [some (.ref a0), some (.int a1), some (.int a2), some (.int x65)]) (dc_X10_layForm 39 rfl) rfl rfl (fun _ => rfl) (fun x65 n65 => ?_)
                refine S_goto 2 (dc_X10_layForm 40 rfl) rfl ?_
                exact ih1 x65 h65_4
              · have hK4 : ∀ (h65_4 : e_H), Sx K cX10_layForm 65 [some (.ref a0), some (.int a1), some (.int a2), some (.int x3_2)] [] h65_4 (some h65_4) Q4 := hK4
                refine S_icmp_ge 48 (dc_X10_layForm 26 rfl) rfl (fun c42 => ?_) (fun c42 => ?_)
                · refine S_aload_n (dc_X10_layForm 28 rfl) rfl ?_
                  refine S_iload_n (dc_X10_layForm 29 rfl) rfl ?_
                  refine S_iload_n (dc_X10_layForm 30 rfl) rfl ?_
                  refine S_iconst_ 1 (dc_X10_layForm 31 rfl) rfl ?_
                  refine Sx.ask (fun _ i52 => ?_)
                  refine S_rwV (d := k_d K - 1) (e_callV (b := a0) (As := [.int a1, .int x3_2, .int 1]) (rest := []) ok_X10_turnBand rfl (Nat.le_of_ble_eq_true rfl) (dc_X10_layForm 32 rfl) ho q1905 q1907 (show e_cl[8]? = some (RX10, TX10, 51) from rfl) (e_sel.of qs71) (e_is_of i52) rfl (Nat.le_of_ble_eq_true rfl)) (by omega) (fun _ e => ct_X10_turnBand (by omega) e) (fun h52 e52 => ?_)
                  refine S_aload_n (dc_X10_layForm 33 rfl) rfl ?_
                  refine S_aload_n (dc_X10_layForm 34 rfl) rfl ?_
                  refine S_iload_n (dc_X10_layForm 35 rfl) rfl ?_
                  refine Sx.ask (fun _ i58 => ?_)
                  refine S_roI (d := k_d K - 1) (e_callV (b := a0) (As := [.int a1]) (rest := [.ref a0]) ok_X10_corners rfl (Nat.le_of_ble_eq_true rfl) (dc_X10_layForm 36 rfl) ho q1803 q1805 (show e_cl[8]? = some (RX10, TX10, 51) from rfl) (e_sel.of qs55) (e_is_of i58) rfl (Nat.le_of_ble_eq_true rfl)) (by omega) (fun _ e => ct_X10_corners (by omega) e) (fun x58 e58 => ?_)
                  refine S_iconst_ 0 (dc_X10_layForm 37 rfl) rfl ?_
                  refine S_rwV (d := k_d K - 1) (e_callV (b := a0) (As := [.int x58, .int 0]) (rest := []) ok_X10_leastRow rfl (Nat.le_of_ble_eq_true rfl) (dc_X10_layForm 38 rfl) ho q1909 q1911 (show e_cl[8]? = some (RX10, TX10, 51) from rfl) (e_sel.of qs72) (e_is_of i58) rfl (Nat.le_of_ble_eq_true rfl)) (by omega) (fun _ e => ct_X10_leastRow (by omega) e) (fun h62 e62 => ?_)
                  exact hK4 h62
                · refine S_goto 65 (dc_X10_layForm 27 rfl) rfl ?_
                  exact hK4 h37
            · have hK3 : ∀ (s37_3 : Int32), Sx K cX10_layForm 37 [some (.ref a0), some (.int a1), some (.int a2), some (.int x3_2)] [.int s37_3, .int x25, .ref a0] h19 (some s37_3) Q3 := hK3
              refine S_if_ne 36 (dc_X10_layForm 19 rfl) rfl (fun c29 => ?_) (fun c29 => ?_)
              · refine S_iconst_ 0 (dc_X10_layForm 22 rfl) rfl ?_
                exact hK3 0
              · refine S_iconst_ 1 (dc_X10_layForm 20 rfl) rfl ?_
                refine S_goto 37 (dc_X10_layForm 21 rfl) rfl ?_
                exact hK3 1
        · have hK2 : ∀ (s12_2 : Int32), Sx K cX10_layForm 12 [some (.ref a0), some (.int a1), some (.int a2), some (.int x3_2)] [.int s12_2, .int x3_2] h_2 (some s12_2) Q2 := hK2
          refine S_if_ne 11 (dc_X10_layForm 4 rfl) rfl (fun c4 => ?_) (fun c4 => ?_)
          · refine S_iconst_ 4 (dc_X10_layForm 7 rfl) rfl ?_
            exact hK2 4
          · refine S_iconst_ 1 (dc_X10_layForm 5 rfl) rfl ?_
            refine S_goto 12 (dc_X10_layForm 6 rfl) rfl ?_
            exact hK2 1
    exact ih1 F 0 h
abbrev cX10_areAlike : ByteArray := prog_18_method_79_code
def yX10_areAlike : MethodName := ⟨"PegBandsModel", "areAlike", "(III)Z"⟩
def tb_X10_areAlike : List (Nat × Instr × Nat) := [(0, .aload_n 0, 1), (1, .iload_n 1, 1), (2, .invokevirtual 279, 3), (5, .aload_n 0, 1), (6, .iload_n 2, 1), (7, .invokevirtual 279, 3), (10, .if_icmp .eq 5, 3), (13, .iconst 0, 1), (14, .ireturn, 1), (15, .aload_n 0, 1), (16, .iload_n 1, 1), (17, .iload_n 3, 1), (18, .invokevirtual 348, 3), (21, .iconst 0, 1), (22, .istore 4, 2), (24, .iload 4, 2), (26, .bipush 16, 2), (28, .if_icmp .ge 23, 3), (31, .aload_n 0, 1), (32, .getfield 60, 3), (35, .iload 4, 2), (37, .aload_n 0, 1), (38, .getfield 57, 3), (41, .iload 4, 2), (43, .iaload, 1), (44, .iastore, 1), (45, .iinc 4 1, 3), (48, .goto (-24), 3), (51, .aload_n 0, 1), (52, .iload_n 2, 1), (53, .iload_n 3, 1), (54, .invokevirtual 348, 3), (57, .aload_n 0, 1), (58, .getfield 60, 3), (61, .aload_n 0, 1), (62, .getfield 57, 3), (65, .iconst 2, 1), (66, .aload_n 0, 1), (67, .iload_n 1, 1), (68, .invokevirtual 279, 3), (71, .imul, 1), (72, .invokestatic 336, 3), (75, .ifCond .ne 7, 3), (78, .iconst 1, 1), (79, .goto 4, 3), (82, .iconst 0, 1), (83, .ireturn, 1)]
theorem tk_X10_areAlike : ∀ q ∈ tb_X10_areAlike, decode cX10_areAlike q.1 = .ok q.2 := by decide +kernel
theorem dc_X10_areAlike (k : Nat) {pc n : Nat} {i : Instr} (h : tb_X10_areAlike[k]? = some (pc, i, n)) : decode cX10_areAlike pc = .ok (i, n) := tk_X10_areAlike (pc, i, n) (List.mem_of_getElem? h)
abbrev mX10_areAlike : e_M := (yX10_areAlike, cX10_areAlike, 5, some (.boolean), [])
theorem ok_X10_areAlike : e_mok mX10_areAlike 3 := ⟨q1900, q119, by decide +kernel, fun sig h => by cases h; rfl⟩
def lp_X10_areAlike_24 (F : Nat) (a0 : Nat) : Nat → Int32 → e_H → Option (e_H)
  | 0, _, _ => none
  | n + 1, x4_24, h_24 =>
    if 16 ≤ x4_24 then
      some h_24
    else
      Option.bind (e_fA h_24 a0 8 31) (fun x32 =>
      Option.bind (e_fA h_24 a0 8 30) (fun x38 =>
      Option.bind (e_aI h_24 x38 0 x4_24) (fun x43 =>
      Option.bind (e_wI h_24 x32 0 x4_24 x43) (fun h44 =>
      Option.bind (some (x4_24 + 1)) (fun x45 =>
      lp_X10_areAlike_24 F a0 n x45 h44)))))
def f_X10_areAlike (F : Nat) (h : e_H) (a0 : Nat) (a1 : Int32) (a2 : Int32) (a3 : Int32) : Option (Int32 × e_H) :=
  Option.bind (e_is h a0 8) (fun _ =>
  Option.bind (f_X10_corners h a0 a1) (fun x2 =>
  Option.bind (f_X10_corners h a0 a2) (fun x7 =>
  if x2 = x7 then
    Option.bind (f_X10_layForm F h a0 a1 a3) (fun h18 =>
    Option.bind (
        lp_X10_areAlike_24 F a0 F 0 h18
      : Option (e_H)) (fun h51_1 =>
    Option.bind (e_is h51_1 a0 8) (fun _ =>
    Option.bind (f_X10_layForm F h51_1 a0 a2 a3) (fun h54 =>
    Option.bind (e_fA h54 a0 8 31) (fun x58 =>
    Option.bind (e_fA h54 a0 8 30) (fun x62 =>
    Option.bind (f_X10_corners h54 a0 a1) (fun x68 =>
    Option.bind (f_X10_compare F h54 x58 x62 (2 * x68)) (fun x72 =>
    if x72 = 0 then
      some (1, h54)
    else
      some (0, h54)))))))))
  else
    some (0, h))))
set_option maxHeartbeats 4000000 in
set_option maxRecDepth 100000 in
theorem ct_X10_areAlike {l : Launch} {D : e_D} {B : Heap} {F : Nat} {d : Nat} {h : e_H} {a0 : Nat} {a1 : Int32} {a2 : Int32} {a3 : Int32} {v : Int32} {h1 : e_H} (hd : 6 ≤ d) (e : f_X10_areAlike F h a0 a1 a2 a3 = some (v, h1)) : e_Run l D B d mX10_areAlike [.ref a0, .int a1, .int a2, .int a3] h (.ok (some (.int v)), h1) := by
  refine e_start [some (.ref a0), some (.int a1), some (.int a2), some (.int a3), none] (by decide) rfl rfl rfl (Nat.le_of_ble_eq_true rfl) (fun K hl0 hD0 hB0 hM hd0 hr => ?_)
  subst hl0 hD0 hB0 hd0
  have ho : (k_M K).1.cls = "PegBandsModel" := by rw [hM]; rfl
  have hT : (k_M K).2.2.2.1 = some (.boolean) := by rw [hM]
  refine (show Sx K cX10_areAlike 0 [some (.ref a0), some (.int a1), some (.int a2), some (.int a3), none] [] h (f_X10_areAlike F h a0 a1 a2 a3) (fun w => w = (v, h1)) from ?_) _ e rfl
  clear e
  unfold f_X10_areAlike
  refine S_aload_n (dc_X10_areAlike 0 rfl) rfl ?_
  refine S_iload_n (dc_X10_areAlike 1 rfl) rfl ?_
  refine Sx.ask (fun _ i2 => ?_)
  refine S_roI (d := k_d K - 1) (e_callV (b := a0) (As := [.int a1]) (rest := []) ok_X10_corners rfl (Nat.le_of_ble_eq_true rfl) (dc_X10_areAlike 2 rfl) ho q1803 q1805 (show e_cl[8]? = some (RX10, TX10, 51) from rfl) (e_sel.of qs55) (e_is_of i2) rfl (Nat.le_of_ble_eq_true rfl)) (by omega) (fun _ e => ct_X10_corners (by omega) e) (fun x2 e2 => ?_)
  refine S_aload_n (dc_X10_areAlike 3 rfl) rfl ?_
  refine S_iload_n (dc_X10_areAlike 4 rfl) rfl ?_
  refine S_roI (d := k_d K - 1) (e_callV (b := a0) (As := [.int a2]) (rest := [.int x2]) ok_X10_corners rfl (Nat.le_of_ble_eq_true rfl) (dc_X10_areAlike 5 rfl) ho q1803 q1805 (show e_cl[8]? = some (RX10, TX10, 51) from rfl) (e_sel.of qs55) (e_is_of i2) rfl (Nat.le_of_ble_eq_true rfl)) (by omega) (fun _ e => ct_X10_corners (by omega) e) (fun x7 e7 => ?_)
  refine S_icmp_eq 15 (dc_X10_areAlike 6 rfl) rfl (fun c10 => ?_) (fun c10 => ?_)
  · refine S_aload_n (dc_X10_areAlike 9 rfl) rfl ?_
    refine S_iload_n (dc_X10_areAlike 10 rfl) rfl ?_
    refine S_iload_n (dc_X10_areAlike 11 rfl) rfl ?_
    refine S_rwV (d := k_d K - 1) (e_callV (b := a0) (As := [.int a1, .int a3]) (rest := []) ok_X10_layForm rfl (Nat.le_of_ble_eq_true rfl) (dc_X10_areAlike 12 rfl) ho q1901 q1903 (show e_cl[8]? = some (RX10, TX10, 51) from rfl) (e_sel.of qs70) (e_is_of i2) rfl (Nat.le_of_ble_eq_true rfl)) (by omega) (fun _ e => ct_X10_layForm (by omega) e) (fun h18 e18 => ?_)
    refine S_iconst_ 0 (dc_X10_areAlike 13 rfl) rfl ?_
    refine S_istore (L' := [some (.ref a0), some (.int a1), some (.int a2), some (.int a3), some (.int 0)]) (dc_X10_areAlike 14 rfl) rfl ?_
    refine Sx.regK1 (pc2 := 51) (L2 := fun (h51_1 : e_H) => [some (.ref a0), some (.int a1), some (.int a2), some (.int a3), none]) (st2 := fun (h51_1 : e_H) => []) (h2 := fun (h51_1 : e_H) => h51_1) ?_ (fun Q1 hK1 => ?_)
    · intro h51_1
      show Sx K cX10_areAlike 51 [some (.ref a0), some (.int a1), some (.int a2), some (.int a3), none] [] h51_1 _ _
      refine S_aload_n (dc_X10_areAlike 28 rfl) rfl ?_
      refine S_iload_n (dc_X10_areAlike 29 rfl) rfl ?_
      refine S_iload_n (dc_X10_areAlike 30 rfl) rfl ?_
      refine Sx.ask (fun _ i54 => ?_)
      refine S_rwV (d := k_d K - 1) (e_callV (b := a0) (As := [.int a2, .int a3]) (rest := []) ok_X10_layForm rfl (Nat.le_of_ble_eq_true rfl) (dc_X10_areAlike 31 rfl) ho q1901 q1903 (show e_cl[8]? = some (RX10, TX10, 51) from rfl) (e_sel.of qs70) (e_is_of i54) rfl (Nat.le_of_ble_eq_true rfl)) (by omega) (fun _ e => ct_X10_layForm (by omega) e) (fun h54 e54 => ?_)
      refine S_aload_n (dc_X10_areAlike 32 rfl) rfl ?_
      refine S_getA (dc_X10_areAlike 33 rfl) ho fl_X10_60_8_31 (fun _ _ => rfl) (fun x58 e58 => ?_)
      refine S_aload_n (dc_X10_areAlike 34 rfl) rfl ?_
      refine S_getA (dc_X10_areAlike 35 rfl) ho fl_X10_57_8_30 (fun _ _ => rfl) (fun x62 e62 => ?_)
      refine S_iconst_ 2 (dc_X10_areAlike 36 rfl) rfl ?_
      refine S_aload_n (dc_X10_areAlike 37 rfl) rfl ?_
      refine S_iload_n (dc_X10_areAlike 38 rfl) rfl ?_
      refine S_roI (d := k_d K - 1) (e_callV (b := a0) (As := [.int a1]) (rest := [.int 2, .ref x62, .ref x58]) ok_X10_corners rfl (Nat.le_of_ble_eq_true rfl) (dc_X10_areAlike 39 rfl) ho q1803 q1805 (show e_cl[8]? = some (RX10, TX10, 51) from rfl) (e_sel.of qs55) (e_fA_of e58).1 rfl (Nat.le_of_ble_eq_true rfl)) (by omega) (fun _ e => ct_X10_corners (by omega) e) (fun x68 e68 => ?_)
      refine S_imul (dc_X10_areAlike 40 rfl) ?_
      refine S_roI (d := k_d K - 1) (e_callS (As := [.ref x58, .ref x62, .int (2 * x68)]) (rest := []) ok_X10_compare rfl (Nat.le_of_ble_eq_true rfl) (dc_X10_areAlike 41 rfl) ho q1913 q1914 rfl (Nat.le_of_ble_eq_true rfl)) (by omega) (fun _ e => ct_X10_compare (by omega) e) (fun x72 e72 => ?_)
      refine S_if_ne 82 (dc_X10_areAlike 42 rfl) rfl (fun c75 => ?_) (fun c75 => ?_)
      · refine S_iconst_ 0 (dc_X10_areAlike 45 rfl) rfl ?_
        exact S_iret (dc_X10_areAlike 46 rfl) hT rfl (e_rqI hr)
      · refine S_iconst_ 1 (dc_X10_areAlike 43 rfl) rfl ?_
        refine S_goto 83 (dc_X10_areAlike 44 rfl) rfl ?_
        exact S_iret (dc_X10_areAlike 46 rfl) hT rfl (e_rqI hr)
    · have hK1 : ∀ (h51_1 : e_H), Sx K cX10_areAlike 51 [some (.ref a0), some (.int a1), some (.int a2), some (.int a3), none] [] h51_1 (some h51_1) Q1 := hK1
      have ih1 : ∀ (n : Nat) (x4_24 : Int32) (h_24 : e_H), Sx K cX10_areAlike 24 [some (.ref a0), some (.int a1), some (.int a2), some (.int a3), some (.int x4_24)] [] h_24 (lp_X10_areAlike_24 F a0 n x4_24 h_24) Q1 := by
        intro n
        induction n with
        | zero => intro x4_24 h_24; exact Sx.none
        | succ n ih1 =>
          intro x4_24 h_24
          rw [lp_X10_areAlike_24.eq_2]
          refine S_iload (dc_X10_areAlike 15 rfl) rfl ?_
          refine S_bipush_ 16 (dc_X10_areAlike 16 rfl) rfl ?_
          refine S_icmp_ge 51 (dc_X10_areAlike 17 rfl) rfl (fun c28 => ?_) (fun c28 => ?_)
          · refine Sx.cut [true, true, true, true, false] ?_
            exact hK1 h_24
          · refine S_aload_n (dc_X10_areAlike 18 rfl) rfl ?_
            refine S_getA (dc_X10_areAlike 19 rfl) ho fl_X10_60_8_31 (fun _ _ => rfl) (fun x32 e32 => ?_)
            refine S_iload (dc_X10_areAlike 20 rfl) rfl ?_
            refine S_aload_n (dc_X10_areAlike 21 rfl) rfl ?_
            refine S_getA (dc_X10_areAlike 22 rfl) ho fl_X10_57_8_30 (fun _ _ => rfl) (fun x38 e38 => ?_)
            refine S_iload (dc_X10_areAlike 23 rfl) rfl ?_
            refine S_iald (dc_X10_areAlike 24 rfl) (fun x43 e43 => ?_)
            refine S_iast (dc_X10_areAlike 25 rfl) (fun h44 e44 => ?_)
            refine S_iincN 1 (L' := fun x45 => [some (.ref a0), some (.int a1), some (.int a2), some (.int a3), some (.int x45)]) (dc_X10_areAlike 26 rfl) rfl rfl (fun _ => rfl) (fun x45 n45 => ?_)
            refine S_goto 24 (dc_X10_areAlike 27 rfl) rfl ?_
            exact ih1 x45 h44
      exact ih1 F 0 h18
  · refine S_iconst_ 0 (dc_X10_areAlike 7 rfl) rfl ?_
    exact S_iret (dc_X10_areAlike 8 rfl) hT rfl (e_rqI hr)
abbrev cX10_alike : ByteArray := prog_18_method_80_code
def yX10_alike : MethodName := ⟨"PegBandsModel", "alike", "(III)I"⟩
def tb_X10_alike : List (Nat × Instr × Nat) := [(0, .aload_n 0, 1), (1, .iconst 0, 1), (2, .putfield 94, 3), (5, .aload_n 0, 1), (6, .iload_n 1, 1), (7, .invokevirtual 304, 3), (10, .ifCond .eq 38, 3), (13, .aload_n 0, 1), (14, .iload_n 2, 1), (15, .invokevirtual 304, 3), (18, .ifCond .eq 30, 3), (21, .iload_n 3, 1), (22, .iconst 0, 1), (23, .iconst 2, 1), (24, .invokestatic 168, 3), (27, .ifCond .eq 21, 3), (30, .aload_n 0, 1), (31, .iload_n 1, 1), (32, .iload_n 2, 1), (33, .iload_n 3, 1), (34, .invokevirtual 352, 3), (37, .ifCond .eq 7, 3), (40, .iconst 1, 1), (41, .goto 8, 3), (44, .iconst 0, 1), (45, .goto 4, 3), (48, .iconst (-1), 1), (49, .ireturn, 1)]
theorem tk_X10_alike : ∀ q ∈ tb_X10_alike, decode cX10_alike q.1 = .ok q.2 := by decide +kernel
theorem dc_X10_alike (k : Nat) {pc n : Nat} {i : Instr} (h : tb_X10_alike[k]? = some (pc, i, n)) : decode cX10_alike pc = .ok (i, n) := tk_X10_alike (pc, i, n) (List.mem_of_getElem? h)
abbrev mX10_alike : e_M := (yX10_alike, cX10_alike, 4, some (.int), [])
theorem ok_X10_alike : e_mok mX10_alike 3 := ⟨q1896, q119, by decide +kernel, fun sig h => by cases h; rfl⟩
def f_X10_alike (F : Nat) (h : e_H) (a0 : Nat) (a1 : Int32) (a2 : Int32) (a3 : Int32) : Option (Int32 × e_H) :=
  Option.bind (e_gI h a0 8 0 0) (fun h2 =>
  Option.bind (e_is h2 a0 8) (fun _ =>
  Option.bind (f_X10_isBand h2 a0 a1) (fun x7 =>
  if x7 = 0 then
    some ((-1), h2)
  else
    Option.bind (f_X10_isBand h2 a0 a2) (fun x15 =>
    if x15 = 0 then
      some ((-1), h2)
    else
      Option.bind (f_X10_isIn a3 0 2) (fun x24 =>
      if x24 = 0 then
        some ((-1), h2)
      else
        e_b2 (f_X10_areAlike F h2 a0 a1 a2 a3) (fun x34 h34 =>
        if x34 = 0 then
          some (0, h34)
        else
          some (1, h34)))))))
set_option maxHeartbeats 4000000 in
set_option maxRecDepth 100000 in
theorem ct_X10_alike {l : Launch} {D : e_D} {B : Heap} {F : Nat} {d : Nat} {h : e_H} {a0 : Nat} {a1 : Int32} {a2 : Int32} {a3 : Int32} {v : Int32} {h1 : e_H} (hd : 7 ≤ d) (e : f_X10_alike F h a0 a1 a2 a3 = some (v, h1)) : e_Run l D B d mX10_alike [.ref a0, .int a1, .int a2, .int a3] h (.ok (some (.int v)), h1) := by
  refine e_start [some (.ref a0), some (.int a1), some (.int a2), some (.int a3)] (by decide) rfl rfl rfl (Nat.le_of_ble_eq_true rfl) (fun K hl0 hD0 hB0 hM hd0 hr => ?_)
  subst hl0 hD0 hB0 hd0
  have ho : (k_M K).1.cls = "PegBandsModel" := by rw [hM]; rfl
  have hT : (k_M K).2.2.2.1 = some (.int) := by rw [hM]
  refine (show Sx K cX10_alike 0 [some (.ref a0), some (.int a1), some (.int a2), some (.int a3)] [] h (f_X10_alike F h a0 a1 a2 a3) (fun w => w = (v, h1)) from ?_) _ e rfl
  clear e
  unfold f_X10_alike
  refine S_aload_n (dc_X10_alike 0 rfl) rfl ?_
  refine S_iconst_ 0 (dc_X10_alike 1 rfl) rfl ?_
  refine S_putI (dc_X10_alike 2 rfl) ho fl_X10_94_8_0 (fun _ _ => rfl) (Or.inl rfl) rfl rfl (fun h2 e2 => ?_)
  refine S_aload_n (dc_X10_alike 3 rfl) rfl ?_
  refine S_iload_n (dc_X10_alike 4 rfl) rfl ?_
  refine Sx.ask (fun _ i7 => ?_)
  refine S_roI (d := k_d K - 1) (e_callV (b := a0) (As := [.int a1]) (rest := []) ok_X10_isBand rfl (Nat.le_of_ble_eq_true rfl) (dc_X10_alike 5 rfl) ho q1791 q1793 (show e_cl[8]? = some (RX10, TX10, 51) from rfl) (e_sel.of qs52) (e_is_of i7) rfl (Nat.le_of_ble_eq_true rfl)) (by omega) (fun _ e => ct_X10_isBand (by omega) e) (fun x7 e7 => ?_)
  refine S_if_eq 48 (dc_X10_alike 6 rfl) rfl (fun c10 => ?_) (fun c10 => ?_)
  · refine S_iconst_ (-1) (dc_X10_alike 26 rfl) rfl ?_
    exact S_iret (dc_X10_alike 27 rfl) hT rfl (e_rqI hr)
  · refine S_aload_n (dc_X10_alike 7 rfl) rfl ?_
    refine S_iload_n (dc_X10_alike 8 rfl) rfl ?_
    refine S_roI (d := k_d K - 1) (e_callV (b := a0) (As := [.int a2]) (rest := []) ok_X10_isBand rfl (Nat.le_of_ble_eq_true rfl) (dc_X10_alike 9 rfl) ho q1791 q1793 (show e_cl[8]? = some (RX10, TX10, 51) from rfl) (e_sel.of qs52) (e_is_of i7) rfl (Nat.le_of_ble_eq_true rfl)) (by omega) (fun _ e => ct_X10_isBand (by omega) e) (fun x15 e15 => ?_)
    refine S_if_eq 48 (dc_X10_alike 10 rfl) rfl (fun c18 => ?_) (fun c18 => ?_)
    · refine S_iconst_ (-1) (dc_X10_alike 26 rfl) rfl ?_
      exact S_iret (dc_X10_alike 27 rfl) hT rfl (e_rqI hr)
    · refine S_iload_n (dc_X10_alike 11 rfl) rfl ?_
      refine S_iconst_ 0 (dc_X10_alike 12 rfl) rfl ?_
      refine S_iconst_ 2 (dc_X10_alike 13 rfl) rfl ?_
      refine S_roI (d := k_d K - 1) (e_callS (As := [.int a3, .int 0, .int 2]) (rest := []) ok_X10_isIn rfl (Nat.le_of_ble_eq_true rfl) (dc_X10_alike 14 rfl) ho q1699 q1700 rfl (Nat.le_of_ble_eq_true rfl)) (by omega) (fun _ e => ct_X10_isIn (by omega) e) (fun x24 e24 => ?_)
      refine S_if_eq 48 (dc_X10_alike 15 rfl) rfl (fun c27 => ?_) (fun c27 => ?_)
      · refine S_iconst_ (-1) (dc_X10_alike 26 rfl) rfl ?_
        exact S_iret (dc_X10_alike 27 rfl) hT rfl (e_rqI hr)
      · refine S_aload_n (dc_X10_alike 16 rfl) rfl ?_
        refine S_iload_n (dc_X10_alike 17 rfl) rfl ?_
        refine S_iload_n (dc_X10_alike 18 rfl) rfl ?_
        refine S_iload_n (dc_X10_alike 19 rfl) rfl ?_
        refine S_rwI (d := k_d K - 1) (e_callV (b := a0) (As := [.int a1, .int a2, .int a3]) (rest := []) ok_X10_areAlike rfl (Nat.le_of_ble_eq_true rfl) (dc_X10_alike 20 rfl) ho q1897 q1899 (show e_cl[8]? = some (RX10, TX10, 51) from rfl) (e_sel.of qs69) (e_is_of i7) rfl (Nat.le_of_ble_eq_true rfl)) (by omega) (fun _ _ e => ct_X10_areAlike (by omega) e) (fun x34 h34 e34 => ?_)
        refine S_if_eq 44 (dc_X10_alike 21 rfl) rfl (fun c37 => ?_) (fun c37 => ?_)
        · refine S_iconst_ 0 (dc_X10_alike 24 rfl) rfl ?_
          refine S_goto 49 (dc_X10_alike 25 rfl) rfl ?_
          exact S_iret (dc_X10_alike 27 rfl) hT rfl (e_rqI hr)
        · refine S_iconst_ 1 (dc_X10_alike 22 rfl) rfl ?_
          refine S_goto 49 (dc_X10_alike 23 rfl) rfl ?_
          exact S_iret (dc_X10_alike 27 rfl) hT rfl (e_rqI hr)
abbrev cX10_form : ByteArray := prog_18_method_81_code
def yX10_form : MethodName := ⟨"PegBandsModel", "form", "(II)I"⟩
def tb_X10_form : List (Nat × Instr × Nat) := [(0, .aload_n 0, 1), (1, .iconst 0, 1), (2, .putfield 94, 3), (5, .aload_n 0, 1), (6, .iload_n 1, 1), (7, .invokevirtual 304, 3), (10, .ifCond .eq 12, 3), (13, .iload_n 2, 1), (14, .iconst 0, 1), (15, .iconst 2, 1), (16, .invokestatic 168, 3), (19, .ifCond .ne 5, 3), (22, .iconst (-1), 1), (23, .ireturn, 1), (24, .aload_n 0, 1), (25, .iload_n 1, 1), (26, .iload_n 2, 1), (27, .invokevirtual 348, 3), (30, .aload_n 0, 1), (31, .iconst 2, 1), (32, .aload_n 0, 1), (33, .iload_n 1, 1), (34, .invokevirtual 279, 3), (37, .imul, 1), (38, .putfield 355, 3), (41, .iconst 0, 1), (42, .istore_n 3, 1), (43, .iload_n 3, 1), (44, .aload_n 0, 1), (45, .getfield 355, 3), (48, .if_icmp .ge 21, 3), (51, .aload_n 0, 1), (52, .getfield 63, 3), (55, .iload_n 3, 1), (56, .aload_n 0, 1), (57, .getfield 57, 3), (60, .iload_n 3, 1), (61, .iaload, 1), (62, .iastore, 1), (63, .iinc 3 1, 3), (66, .goto (-23), 3), (69, .aload_n 0, 1), (70, .getfield 355, 3), (73, .ireturn, 1)]
theorem tk_X10_form : ∀ q ∈ tb_X10_form, decode cX10_form q.1 = .ok q.2 := by decide +kernel
theorem dc_X10_form (k : Nat) {pc n : Nat} {i : Instr} (h : tb_X10_form[k]? = some (pc, i, n)) : decode cX10_form pc = .ok (i, n) := tk_X10_form (pc, i, n) (List.mem_of_getElem? h)
abbrev mX10_form : e_M := (yX10_form, cX10_form, 4, some (.int), [])
theorem ok_X10_form : e_mok mX10_form 2 := ⟨q1919, q119, by decide +kernel, fun sig h => by cases h; rfl⟩
theorem fl_X10_355_8_33 : e_FL "PegBandsModel" 355 8 33 := ⟨_, rfl, by decide, Or.inl q1504⟩
def lp_X10_form_43 (F : Nat) (a0 : Nat) : Nat → Int32 → e_H → Option (e_H)
  | 0, _, _ => none
  | n + 1, x3_43, h_43 =>
    Option.bind (e_fI h_43 a0 8 33) (fun x45 =>
    if x45 ≤ x3_43 then
      some h_43
    else
      Option.bind (e_fA h_43 a0 8 32) (fun x52 =>
      Option.bind (e_fA h_43 a0 8 30) (fun x57 =>
      Option.bind (e_aI h_43 x57 0 x3_43) (fun x61 =>
      Option.bind (e_wI h_43 x52 0 x3_43 x61) (fun h62 =>
      Option.bind (some (x3_43 + 1)) (fun x63 =>
      lp_X10_form_43 F a0 n x63 h62))))))
def f_X10_form (F : Nat) (h : e_H) (a0 : Nat) (a1 : Int32) (a2 : Int32) : Option (Int32 × e_H) :=
  Option.bind (e_gI h a0 8 0 0) (fun h2 =>
  Option.bind (e_is h2 a0 8) (fun _ =>
  Option.bind (f_X10_isBand h2 a0 a1) (fun x7 =>
  if x7 = 0 then
    some ((-1), h2)
  else
    Option.bind (f_X10_isIn a2 0 2) (fun x16 =>
    if x16 = 0 then
      some ((-1), h2)
    else
      Option.bind (f_X10_layForm F h2 a0 a1 a2) (fun h27 =>
      Option.bind (e_is h27 a0 8) (fun _ =>
      Option.bind (f_X10_corners h27 a0 a1) (fun x34 =>
      Option.bind (e_gI h27 a0 8 33 (2 * x34)) (fun h38 =>
      Option.bind (
          lp_X10_form_43 F a0 F 0 h38
        : Option (e_H)) (fun h69_1 =>
      Option.bind (e_fI h69_1 a0 8 33) (fun x70 =>
      some (x70, h69_1)))))))))))
set_option maxHeartbeats 4000000 in
set_option maxRecDepth 100000 in
theorem ct_X10_form {l : Launch} {D : e_D} {B : Heap} {F : Nat} {d : Nat} {h : e_H} {a0 : Nat} {a1 : Int32} {a2 : Int32} {v : Int32} {h1 : e_H} (hd : 6 ≤ d) (e : f_X10_form F h a0 a1 a2 = some (v, h1)) : e_Run l D B d mX10_form [.ref a0, .int a1, .int a2] h (.ok (some (.int v)), h1) := by
  refine e_start [some (.ref a0), some (.int a1), some (.int a2), none] (by decide) rfl rfl rfl (Nat.le_of_ble_eq_true rfl) (fun K hl0 hD0 hB0 hM hd0 hr => ?_)
  subst hl0 hD0 hB0 hd0
  have ho : (k_M K).1.cls = "PegBandsModel" := by rw [hM]; rfl
  have hT : (k_M K).2.2.2.1 = some (.int) := by rw [hM]
  refine (show Sx K cX10_form 0 [some (.ref a0), some (.int a1), some (.int a2), none] [] h (f_X10_form F h a0 a1 a2) (fun w => w = (v, h1)) from ?_) _ e rfl
  clear e
  unfold f_X10_form
  refine S_aload_n (dc_X10_form 0 rfl) rfl ?_
  refine S_iconst_ 0 (dc_X10_form 1 rfl) rfl ?_
  refine S_putI (dc_X10_form 2 rfl) ho fl_X10_94_8_0 (fun _ _ => rfl) (Or.inl rfl) rfl rfl (fun h2 e2 => ?_)
  refine S_aload_n (dc_X10_form 3 rfl) rfl ?_
  refine S_iload_n (dc_X10_form 4 rfl) rfl ?_
  refine Sx.ask (fun _ i7 => ?_)
  refine S_roI (d := k_d K - 1) (e_callV (b := a0) (As := [.int a1]) (rest := []) ok_X10_isBand rfl (Nat.le_of_ble_eq_true rfl) (dc_X10_form 5 rfl) ho q1791 q1793 (show e_cl[8]? = some (RX10, TX10, 51) from rfl) (e_sel.of qs52) (e_is_of i7) rfl (Nat.le_of_ble_eq_true rfl)) (by omega) (fun _ e => ct_X10_isBand (by omega) e) (fun x7 e7 => ?_)
  refine S_if_eq 22 (dc_X10_form 6 rfl) rfl (fun c10 => ?_) (fun c10 => ?_)
  · refine S_iconst_ (-1) (dc_X10_form 12 rfl) rfl ?_
    exact S_iret (dc_X10_form 13 rfl) hT rfl (e_rqI hr)
  · refine S_iload_n (dc_X10_form 7 rfl) rfl ?_
    refine S_iconst_ 0 (dc_X10_form 8 rfl) rfl ?_
    refine S_iconst_ 2 (dc_X10_form 9 rfl) rfl ?_
    refine S_roI (d := k_d K - 1) (e_callS (As := [.int a2, .int 0, .int 2]) (rest := []) ok_X10_isIn rfl (Nat.le_of_ble_eq_true rfl) (dc_X10_form 10 rfl) ho q1699 q1700 rfl (Nat.le_of_ble_eq_true rfl)) (by omega) (fun _ e => ct_X10_isIn (by omega) e) (fun x16 e16 => ?_)
    refine S_if_ne 24 (dc_X10_form 11 rfl) rfl (fun c19 => ?_) (fun c19 => ?_)
    · refine S_aload_n (dc_X10_form 14 rfl) rfl ?_
      refine S_iload_n (dc_X10_form 15 rfl) rfl ?_
      refine S_iload_n (dc_X10_form 16 rfl) rfl ?_
      refine S_rwV (d := k_d K - 1) (e_callV (b := a0) (As := [.int a1, .int a2]) (rest := []) ok_X10_layForm rfl (Nat.le_of_ble_eq_true rfl) (dc_X10_form 17 rfl) ho q1901 q1903 (show e_cl[8]? = some (RX10, TX10, 51) from rfl) (e_sel.of qs70) (e_is_of i7) rfl (Nat.le_of_ble_eq_true rfl)) (by omega) (fun _ e => ct_X10_layForm (by omega) e) (fun h27 e27 => ?_)
      refine S_aload_n (dc_X10_form 18 rfl) rfl ?_
      refine S_iconst_ 2 (dc_X10_form 19 rfl) rfl ?_
      refine S_aload_n (dc_X10_form 20 rfl) rfl ?_
      refine S_iload_n (dc_X10_form 21 rfl) rfl ?_
      refine Sx.ask (fun _ i34 => ?_)
      refine S_roI (d := k_d K - 1) (e_callV (b := a0) (As := [.int a1]) (rest := [.int 2, .ref a0]) ok_X10_corners rfl (Nat.le_of_ble_eq_true rfl) (dc_X10_form 22 rfl) ho q1803 q1805 (show e_cl[8]? = some (RX10, TX10, 51) from rfl) (e_sel.of qs55) (e_is_of i34) rfl (Nat.le_of_ble_eq_true rfl)) (by omega) (fun _ e => ct_X10_corners (by omega) e) (fun x34 e34 => ?_)
      refine S_imul (dc_X10_form 23 rfl) ?_
      refine S_putI (dc_X10_form 24 rfl) ho fl_X10_355_8_33 (fun _ _ => rfl) (Or.inl rfl) rfl rfl (fun h38 e38 => ?_)
      refine S_iconst_ 0 (dc_X10_form 25 rfl) rfl ?_
      refine S_istore_n (L' := [some (.ref a0), some (.int a1), some (.int a2), some (.int 0)]) (dc_X10_form 26 rfl) rfl ?_
      refine Sx.regK1 (pc2 := 69) (L2 := fun (h69_1 : e_H) => [some (.ref a0), none, none, none]) (st2 := fun (h69_1 : e_H) => []) (h2 := fun (h69_1 : e_H) => h69_1) ?_ (fun Q1 hK1 => ?_)
      · intro h69_1
        show Sx K cX10_form 69 [some (.ref a0), none, none, none] [] h69_1 _ _
        refine S_aload_n (dc_X10_form 41 rfl) rfl ?_
        refine S_getI (dc_X10_form 42 rfl) ho fl_X10_355_8_33 (fun _ _ => rfl) (fun x70 e70 => ?_)
        exact S_iret (dc_X10_form 43 rfl) hT rfl (e_rqI hr)
      · have hK1 : ∀ (h69_1 : e_H), Sx K cX10_form 69 [some (.ref a0), none, none, none] [] h69_1 (some h69_1) Q1 := hK1
        have ih1 : ∀ (n : Nat) (x3_43 : Int32) (h_43 : e_H), Sx K cX10_form 43 [some (.ref a0), none, none, some (.int x3_43)] [] h_43 (lp_X10_form_43 F a0 n x3_43 h_43) Q1 := by
          intro n
          induction n with
          | zero => intro x3_43 h_43; exact Sx.none
          | succ n ih1 =>
            intro x3_43 h_43
            rw [lp_X10_form_43.eq_2]
            refine S_iload_n (dc_X10_form 27 rfl) rfl ?_
            refine S_aload_n (dc_X10_form 28 rfl) rfl ?_
            refine S_getI (dc_X10_form 29 rfl) ho fl_X10_355_8_33 (fun _ _ => rfl) (fun x45 e45 => ?_)
            refine S_icmp_ge 69 (dc_X10_form 30 rfl) rfl (fun c48 => ?_) (fun c48 => ?_)
            · refine Sx.cut [true, true, true, false] ?_
              exact hK1 h_43
            · refine S_aload_n (dc_X10_form 31 rfl) rfl ?_
              refine S_getA (dc_X10_form 32 rfl) ho fl_X10_63_8_32 (fun _ _ => rfl) (fun x52 e52 => ?_)
              refine S_iload_n (dc_X10_form 33 rfl) rfl ?_
              refine S_aload_n (dc_X10_form 34 rfl) rfl ?_
              refine S_getA (dc_X10_form 35 rfl) ho fl_X10_57_8_30 (fun _ _ => rfl) (fun x57 e57 => ?_)
              refine S_iload_n (dc_X10_form 36 rfl) rfl ?_
              refine S_iald (dc_X10_form 37 rfl) (fun x61 e61 => ?_)
              refine S_iast (dc_X10_form 38 rfl) (fun h62 e62 => ?_)
              refine S_iincN 1 (L' := fun x63 => [some (.ref a0), none, none, some (.int x63)]) (dc_X10_form 39 rfl) rfl rfl (fun _ => rfl) (fun x63 n63 => ?_)
              refine S_goto 43 (dc_X10_form 40 rfl) rfl ?_
              exact ih1 x63 h62
        refine Sx.cut [true, false, false, true] ?_
        exact ih1 F 0 h38
    · refine S_iconst_ (-1) (dc_X10_form 12 rfl) rfl ?_
      exact S_iret (dc_X10_form 13 rfl) hT rfl (e_rqI hr)
abbrev cX10_formAt : ByteArray := prog_18_method_82_code
def yX10_formAt : MethodName := ⟨"PegBandsModel", "formAt", "(I)I"⟩
def tb_X10_formAt : List (Nat × Instr × Nat) := [(0, .aload_n 0, 1), (1, .iconst 0, 1), (2, .putfield 94, 3), (5, .iload_n 1, 1), (6, .ifCond .lt 20, 3), (9, .iload_n 1, 1), (10, .aload_n 0, 1), (11, .getfield 355, 3), (14, .if_icmp .ge 12, 3), (17, .aload_n 0, 1), (18, .getfield 63, 3), (21, .iload_n 1, 1), (22, .iaload, 1), (23, .goto 4, 3), (26, .iconst (-1), 1), (27, .ireturn, 1)]
theorem tk_X10_formAt : ∀ q ∈ tb_X10_formAt, decode cX10_formAt q.1 = .ok q.2 := by decide +kernel
theorem dc_X10_formAt (k : Nat) {pc n : Nat} {i : Instr} (h : tb_X10_formAt[k]? = some (pc, i, n)) : decode cX10_formAt pc = .ok (i, n) := tk_X10_formAt (pc, i, n) (List.mem_of_getElem? h)
abbrev mX10_formAt : e_M := (yX10_formAt, cX10_formAt, 2, some (.int), [])
theorem ok_X10_formAt : e_mok mX10_formAt 1 := ⟨q1923, q119, by decide +kernel, fun sig h => by cases h; rfl⟩
def f_X10_formAt (h : e_H) (a0 : Nat) (a1 : Int32) : Option (Int32 × e_H) :=
  Option.bind (e_gI h a0 8 0 0) (fun h2 =>
  if a1 < 0 then
    some ((-1), h2)
  else
    Option.bind (e_fI h2 a0 8 33) (fun x11 =>
    if x11 ≤ a1 then
      some ((-1), h2)
    else
      Option.bind (e_fA h2 a0 8 32) (fun x18 =>
      Option.bind (e_aI h2 x18 0 a1) (fun x22 =>
      some (x22, h2)))))
set_option maxHeartbeats 4000000 in
set_option maxRecDepth 100000 in
theorem ct_X10_formAt {l : Launch} {D : e_D} {B : Heap} {d : Nat} {h : e_H} {a0 : Nat} {a1 : Int32} {v : Int32} {h1 : e_H} (hd : 1 ≤ d) (e : f_X10_formAt h a0 a1 = some (v, h1)) : e_Run l D B d mX10_formAt [.ref a0, .int a1] h (.ok (some (.int v)), h1) := by
  refine e_start [some (.ref a0), some (.int a1)] (by decide) rfl rfl rfl (Nat.le_of_ble_eq_true rfl) (fun K hl0 hD0 hB0 hM hd0 hr => ?_)
  subst hl0 hD0 hB0 hd0
  have ho : (k_M K).1.cls = "PegBandsModel" := by rw [hM]; rfl
  have hT : (k_M K).2.2.2.1 = some (.int) := by rw [hM]
  refine (show Sx K cX10_formAt 0 [some (.ref a0), some (.int a1)] [] h (f_X10_formAt h a0 a1) (fun w => w = (v, h1)) from ?_) _ e rfl
  clear e
  unfold f_X10_formAt
  refine S_aload_n (dc_X10_formAt 0 rfl) rfl ?_
  refine S_iconst_ 0 (dc_X10_formAt 1 rfl) rfl ?_
  refine S_putI (dc_X10_formAt 2 rfl) ho fl_X10_94_8_0 (fun _ _ => rfl) (Or.inl rfl) rfl rfl (fun h2 e2 => ?_)
  refine S_iload_n (dc_X10_formAt 3 rfl) rfl ?_
  refine S_if_lt 26 (dc_X10_formAt 4 rfl) rfl (fun c6 => ?_) (fun c6 => ?_)
  · refine S_iconst_ (-1) (dc_X10_formAt 14 rfl) rfl ?_
    exact S_iret (dc_X10_formAt 15 rfl) hT rfl (e_rqI hr)
  · refine S_iload_n (dc_X10_formAt 5 rfl) rfl ?_
    refine S_aload_n (dc_X10_formAt 6 rfl) rfl ?_
    refine S_getI (dc_X10_formAt 7 rfl) ho fl_X10_355_8_33 (fun _ _ => rfl) (fun x11 e11 => ?_)
    refine S_icmp_ge 26 (dc_X10_formAt 8 rfl) rfl (fun c14 => ?_) (fun c14 => ?_)
    · refine S_iconst_ (-1) (dc_X10_formAt 14 rfl) rfl ?_
      exact S_iret (dc_X10_formAt 15 rfl) hT rfl (e_rqI hr)
    · refine S_aload_n (dc_X10_formAt 9 rfl) rfl ?_
      refine S_getA (dc_X10_formAt 10 rfl) ho fl_X10_63_8_32 (fun _ _ => rfl) (fun x18 e18 => ?_)
      refine S_iload_n (dc_X10_formAt 11 rfl) rfl ?_
      refine S_iald (dc_X10_formAt 12 rfl) (fun x22 e22 => ?_)
      refine S_goto 27 (dc_X10_formAt 13 rfl) rfl ?_
      exact S_iret (dc_X10_formAt 15 rfl) hT rfl (e_rqI hr)
abbrev cX10_isSame : ByteArray := prog_18_method_83_code
def yX10_isSame : MethodName := ⟨"PegBandsModel", "isSame", "(IIZ)Z"⟩
def tb_X10_isSame : List (Nat × Instr × Nat) := [(0, .aload_n 0, 1), (1, .iload_n 1, 1), (2, .iconst 0, 1), (3, .invokevirtual 348, 3), (6, .iconst 0, 1), (7, .istore 4, 2), (9, .iload 4, 2), (11, .bipush 16, 2), (13, .if_icmp .ge 23, 3), (16, .aload_n 0, 1), (17, .getfield 60, 3), (20, .iload 4, 2), (22, .aload_n 0, 1), (23, .getfield 57, 3), (26, .iload 4, 2), (28, .iaload, 1), (29, .iastore, 1), (30, .iinc 4 1, 3), (33, .goto (-24), 3), (36, .aload_n 0, 1), (37, .iload_n 1, 1), (38, .iload_n 2, 1), (39, .iload_n 3, 1), (40, .invokevirtual 340, 3), (43, .aload_n 0, 1), (44, .aload_n 0, 1), (45, .iload_n 1, 1), (46, .invokevirtual 279, 3), (49, .iconst 1, 1), (50, .invokevirtual 344, 3), (53, .aload_n 0, 1), (54, .getfield 60, 3), (57, .aload_n 0, 1), (58, .getfield 57, 3), (61, .iconst 2, 1), (62, .aload_n 0, 1), (63, .iload_n 1, 1), (64, .invokevirtual 279, 3), (67, .imul, 1), (68, .invokestatic 336, 3), (71, .ifCond .ne 7, 3), (74, .iconst 1, 1), (75, .goto 4, 3), (78, .iconst 0, 1), (79, .ireturn, 1)]
theorem tk_X10_isSame : ∀ q ∈ tb_X10_isSame, decode cX10_isSame q.1 = .ok q.2 := by decide +kernel
theorem dc_X10_isSame (k : Nat) {pc n : Nat} {i : Instr} (h : tb_X10_isSame[k]? = some (pc, i, n)) : decode cX10_isSame pc = .ok (i, n) := tk_X10_isSame (pc, i, n) (List.mem_of_getElem? h)
abbrev mX10_isSame : e_M := (yX10_isSame, cX10_isSame, 5, some (.boolean), [])
theorem ok_X10_isSame : e_mok mX10_isSame 3 := ⟨q1931, q119, by decide +kernel, fun sig h => by cases h; rfl⟩
def lp_X10_isSame_9 (F : Nat) (a0 : Nat) : Nat → Int32 → e_H → Option (e_H)
  | 0, _, _ => none
  | n + 1, x4_9, h_9 =>
    if 16 ≤ x4_9 then
      some h_9
    else
      Option.bind (e_fA h_9 a0 8 31) (fun x17 =>
      Option.bind (e_fA h_9 a0 8 30) (fun x23 =>
      Option.bind (e_aI h_9 x23 0 x4_9) (fun x28 =>
      Option.bind (e_wI h_9 x17 0 x4_9 x28) (fun h29 =>
      Option.bind (some (x4_9 + 1)) (fun x30 =>
      lp_X10_isSame_9 F a0 n x30 h29)))))
def f_X10_isSame (F : Nat) (h : e_H) (a0 : Nat) (a1 : Int32) (a2 : Int32) (a3 : Int32) : Option (Int32 × e_H) :=
  Option.bind (e_is h a0 8) (fun _ =>
  Option.bind (f_X10_layForm F h a0 a1 0) (fun h3 =>
  Option.bind (
      lp_X10_isSame_9 F a0 F 0 h3
    : Option (e_H)) (fun h36_1 =>
  Option.bind (e_is h36_1 a0 8) (fun _ =>
  Option.bind (f_X10_turnBand F h36_1 a0 a1 a2 a3) (fun h40 =>
  Option.bind (e_is h40 a0 8) (fun _ =>
  Option.bind (f_X10_corners h40 a0 a1) (fun x46 =>
  Option.bind (f_X10_leastRow F h40 a0 x46 1) (fun h50 =>
  Option.bind (e_fA h50 a0 8 31) (fun x54 =>
  Option.bind (e_fA h50 a0 8 30) (fun x58 =>
  Option.bind (f_X10_corners h50 a0 a1) (fun x64 =>
  Option.bind (f_X10_compare F h50 x54 x58 (2 * x64)) (fun x68 =>
  if x68 = 0 then
    some (1, h50)
  else
    some (0, h50)))))))))))))
set_option maxHeartbeats 4000000 in
set_option maxRecDepth 100000 in
theorem ct_X10_isSame {l : Launch} {D : e_D} {B : Heap} {F : Nat} {d : Nat} {h : e_H} {a0 : Nat} {a1 : Int32} {a2 : Int32} {a3 : Int32} {v : Int32} {h1 : e_H} (hd : 6 ≤ d) (e : f_X10_isSame F h a0 a1 a2 a3 = some (v, h1)) : e_Run l D B d mX10_isSame [.ref a0, .int a1, .int a2, .int a3] h (.ok (some (.int v)), h1) := by
  refine e_start [some (.ref a0), some (.int a1), some (.int a2), some (.int a3), none] (by decide) rfl rfl rfl (Nat.le_of_ble_eq_true rfl) (fun K hl0 hD0 hB0 hM hd0 hr => ?_)
  subst hl0 hD0 hB0 hd0
  have ho : (k_M K).1.cls = "PegBandsModel" := by rw [hM]; rfl
  have hT : (k_M K).2.2.2.1 = some (.boolean) := by rw [hM]
  refine (show Sx K cX10_isSame 0 [some (.ref a0), some (.int a1), some (.int a2), some (.int a3), none] [] h (f_X10_isSame F h a0 a1 a2 a3) (fun w => w = (v, h1)) from ?_) _ e rfl
  clear e
  unfold f_X10_isSame
  refine S_aload_n (dc_X10_isSame 0 rfl) rfl ?_
  refine S_iload_n (dc_X10_isSame 1 rfl) rfl ?_
  refine S_iconst_ 0 (dc_X10_isSame 2 rfl) rfl ?_
  refine Sx.ask (fun _ i3 => ?_)
  refine S_rwV (d := k_d K - 1) (e_callV (b := a0) (As := [.int a1, .int 0]) (rest := []) ok_X10_layForm rfl (Nat.le_of_ble_eq_true rfl) (dc_X10_isSame 3 rfl) ho q1901 q1903 (show e_cl[8]? = some (RX10, TX10, 51) from rfl) (e_sel.of qs70) (e_is_of i3) rfl (Nat.le_of_ble_eq_true rfl)) (by omega) (fun _ e => ct_X10_layForm (by omega) e) (fun h3 e3 => ?_)
  refine S_iconst_ 0 (dc_X10_isSame 4 rfl) rfl ?_
  refine S_istore (L' := [some (.ref a0), some (.int a1), some (.int a2), some (.int a3), some (.int 0)]) (dc_X10_isSame 5 rfl) rfl ?_
  refine Sx.regK1 (pc2 := 36) (L2 := fun (h36_1 : e_H) => [some (.ref a0), some (.int a1), some (.int a2), some (.int a3), none]) (st2 := fun (h36_1 : e_H) => []) (h2 := fun (h36_1 : e_H) => h36_1) ?_ (fun Q1 hK1 => ?_)
  · intro h36_1
    show Sx K cX10_isSame 36 [some (.ref a0), some (.int a1), some (.int a2), some (.int a3), none] [] h36_1 _ _
    refine S_aload_n (dc_X10_isSame 19 rfl) rfl ?_
    refine S_iload_n (dc_X10_isSame 20 rfl) rfl ?_
    refine S_iload_n (dc_X10_isSame 21 rfl) rfl ?_
    refine S_iload_n (dc_X10_isSame 22 rfl) rfl ?_
    refine Sx.ask (fun _ i40 => ?_)
    refine S_rwV (d := k_d K - 1) (e_callV (b := a0) (As := [.int a1, .int a2, .int a3]) (rest := []) ok_X10_turnBand rfl (Nat.le_of_ble_eq_true rfl) (dc_X10_isSame 23 rfl) ho q1905 q1907 (show e_cl[8]? = some (RX10, TX10, 51) from rfl) (e_sel.of qs71) (e_is_of i40) rfl (Nat.le_of_ble_eq_true rfl)) (by omega) (fun _ e => ct_X10_turnBand (by omega) e) (fun h40 e40 => ?_)
    refine S_aload_n (dc_X10_isSame 24 rfl) rfl ?_
    refine S_aload_n (dc_X10_isSame 25 rfl) rfl ?_
    refine S_iload_n (dc_X10_isSame 26 rfl) rfl ?_
    refine Sx.ask (fun _ i46 => ?_)
    refine S_roI (d := k_d K - 1) (e_callV (b := a0) (As := [.int a1]) (rest := [.ref a0]) ok_X10_corners rfl (Nat.le_of_ble_eq_true rfl) (dc_X10_isSame 27 rfl) ho q1803 q1805 (show e_cl[8]? = some (RX10, TX10, 51) from rfl) (e_sel.of qs55) (e_is_of i46) rfl (Nat.le_of_ble_eq_true rfl)) (by omega) (fun _ e => ct_X10_corners (by omega) e) (fun x46 e46 => ?_)
    refine S_iconst_ 1 (dc_X10_isSame 28 rfl) rfl ?_
    refine S_rwV (d := k_d K - 1) (e_callV (b := a0) (As := [.int x46, .int 1]) (rest := []) ok_X10_leastRow rfl (Nat.le_of_ble_eq_true rfl) (dc_X10_isSame 29 rfl) ho q1909 q1911 (show e_cl[8]? = some (RX10, TX10, 51) from rfl) (e_sel.of qs72) (e_is_of i46) rfl (Nat.le_of_ble_eq_true rfl)) (by omega) (fun _ e => ct_X10_leastRow (by omega) e) (fun h50 e50 => ?_)
    refine S_aload_n (dc_X10_isSame 30 rfl) rfl ?_
    refine S_getA (dc_X10_isSame 31 rfl) ho fl_X10_60_8_31 (fun _ _ => rfl) (fun x54 e54 => ?_)
    refine S_aload_n (dc_X10_isSame 32 rfl) rfl ?_
    refine S_getA (dc_X10_isSame 33 rfl) ho fl_X10_57_8_30 (fun _ _ => rfl) (fun x58 e58 => ?_)
    refine S_iconst_ 2 (dc_X10_isSame 34 rfl) rfl ?_
    refine S_aload_n (dc_X10_isSame 35 rfl) rfl ?_
    refine S_iload_n (dc_X10_isSame 36 rfl) rfl ?_
    refine S_roI (d := k_d K - 1) (e_callV (b := a0) (As := [.int a1]) (rest := [.int 2, .ref x58, .ref x54]) ok_X10_corners rfl (Nat.le_of_ble_eq_true rfl) (dc_X10_isSame 37 rfl) ho q1803 q1805 (show e_cl[8]? = some (RX10, TX10, 51) from rfl) (e_sel.of qs55) (e_fA_of e54).1 rfl (Nat.le_of_ble_eq_true rfl)) (by omega) (fun _ e => ct_X10_corners (by omega) e) (fun x64 e64 => ?_)
    refine S_imul (dc_X10_isSame 38 rfl) ?_
    refine S_roI (d := k_d K - 1) (e_callS (As := [.ref x54, .ref x58, .int (2 * x64)]) (rest := []) ok_X10_compare rfl (Nat.le_of_ble_eq_true rfl) (dc_X10_isSame 39 rfl) ho q1913 q1914 rfl (Nat.le_of_ble_eq_true rfl)) (by omega) (fun _ e => ct_X10_compare (by omega) e) (fun x68 e68 => ?_)
    refine S_if_ne 78 (dc_X10_isSame 40 rfl) rfl (fun c71 => ?_) (fun c71 => ?_)
    · refine S_iconst_ 0 (dc_X10_isSame 43 rfl) rfl ?_
      exact S_iret (dc_X10_isSame 44 rfl) hT rfl (e_rqI hr)
    · refine S_iconst_ 1 (dc_X10_isSame 41 rfl) rfl ?_
      refine S_goto 79 (dc_X10_isSame 42 rfl) rfl ?_
      exact S_iret (dc_X10_isSame 44 rfl) hT rfl (e_rqI hr)
  · have hK1 : ∀ (h36_1 : e_H), Sx K cX10_isSame 36 [some (.ref a0), some (.int a1), some (.int a2), some (.int a3), none] [] h36_1 (some h36_1) Q1 := hK1
    have ih1 : ∀ (n : Nat) (x4_9 : Int32) (h_9 : e_H), Sx K cX10_isSame 9 [some (.ref a0), some (.int a1), some (.int a2), some (.int a3), some (.int x4_9)] [] h_9 (lp_X10_isSame_9 F a0 n x4_9 h_9) Q1 := by
      intro n
      induction n with
      | zero => intro x4_9 h_9; exact Sx.none
      | succ n ih1 =>
        intro x4_9 h_9
        rw [lp_X10_isSame_9.eq_2]
        refine S_iload (dc_X10_isSame 6 rfl) rfl ?_
        refine S_bipush_ 16 (dc_X10_isSame 7 rfl) rfl ?_
        refine S_icmp_ge 36 (dc_X10_isSame 8 rfl) rfl (fun c13 => ?_) (fun c13 => ?_)
        · refine Sx.cut [true, true, true, true, false] ?_
          exact hK1 h_9
        · refine S_aload_n (dc_X10_isSame 9 rfl) rfl ?_
          refine S_getA (dc_X10_isSame 10 rfl) ho fl_X10_60_8_31 (fun _ _ => rfl) (fun x17 e17 => ?_)
          refine S_iload (dc_X10_isSame 11 rfl) rfl ?_
          refine S_aload_n (dc_X10_isSame 12 rfl) rfl ?_
          refine S_getA (dc_X10_isSame 13 rfl) ho fl_X10_57_8_30 (fun _ _ => rfl) (fun x23 e23 => ?_)
          refine S_iload (dc_X10_isSame 14 rfl) rfl ?_
          refine S_iald (dc_X10_isSame 15 rfl) (fun x28 e28 => ?_)
          refine S_iast (dc_X10_isSame 16 rfl) (fun h29 e29 => ?_)
          refine S_iincN 1 (L' := fun x30 => [some (.ref a0), some (.int a1), some (.int a2), some (.int a3), some (.int x30)]) (dc_X10_isSame 17 rfl) rfl rfl (fun _ => rfl) (fun x30 n30 => ?_)
          refine S_goto 9 (dc_X10_isSame 18 rfl) rfl ?_
          exact ih1 x30 h29
    exact ih1 F 0 h3
abbrev cX10_even : ByteArray := prog_18_method_84_code
def yX10_even : MethodName := ⟨"PegBandsModel", "even", "(II)I"⟩
def tb_X10_even : List (Nat × Instr × Nat) := [(0, .aload_n 0, 1), (1, .iconst 0, 1), (2, .putfield 94, 3), (5, .aload_n 0, 1), (6, .iload_n 1, 1), (7, .invokevirtual 304, 3), (10, .ifCond .eq 12, 3), (13, .iload_n 2, 1), (14, .iconst 0, 1), (15, .iconst 2, 1), (16, .invokestatic 168, 3), (19, .ifCond .ne 5, 3), (22, .iconst (-1), 1), (23, .ireturn, 1), (24, .iload_n 2, 1), (25, .iconst 2, 1), (26, .if_icmp .ge 21, 3), (29, .aload_n 0, 1), (30, .iload_n 1, 1), (31, .iconst 2, 1), (32, .iload_n 2, 1), (33, .isub, 1), (34, .iconst 0, 1), (35, .invokevirtual 358, 3), (38, .ifCond .eq 7, 3), (41, .iconst 1, 1), (42, .goto 4, 3), (45, .iconst 0, 1), (46, .ireturn, 1), (47, .iconst 0, 1), (48, .istore_n 3, 1), (49, .iload_n 3, 1), (50, .iconst 4, 1), (51, .if_icmp .ge 21, 3), (54, .aload_n 0, 1), (55, .iload_n 1, 1), (56, .iload_n 3, 1), (57, .iconst 1, 1), (58, .invokevirtual 358, 3), (61, .ifCond .eq 5, 3), (64, .iconst 1, 1), (65, .ireturn, 1), (66, .iinc 3 1, 3), (69, .goto (-20), 3), (72, .iconst 0, 1), (73, .ireturn, 1)]
theorem tk_X10_even : ∀ q ∈ tb_X10_even, decode cX10_even q.1 = .ok q.2 := by decide +kernel
theorem dc_X10_even (k : Nat) {pc n : Nat} {i : Instr} (h : tb_X10_even[k]? = some (pc, i, n)) : decode cX10_even pc = .ok (i, n) := tk_X10_even (pc, i, n) (List.mem_of_getElem? h)
abbrev mX10_even : e_M := (yX10_even, cX10_even, 4, some (.int), [])
theorem ok_X10_even : e_mok mX10_even 2 := ⟨q1927, q119, by decide +kernel, fun sig h => by cases h; rfl⟩
def lp_X10_even_49 (F : Nat) (a0 : Nat) (a1 : Int32) : Nat → Int32 → e_H → Option (Except (Int32 × e_H) e_H)
  | 0, _, _ => none
  | n + 1, x3_49, h_49 =>
    if 4 ≤ x3_49 then
      some (.ok h_49)
    else
      Option.bind (e_is h_49 a0 8) (fun _ =>
      e_b2 (f_X10_isSame F h_49 a0 a1 x3_49 1) (fun x58 h58 =>
      if x58 = 0 then
        Option.bind (some (x3_49 + 1)) (fun x66 =>
        lp_X10_even_49 F a0 a1 n x66 h58)
      else
        some (.error (1, h58))))
def f_X10_even (F : Nat) (h : e_H) (a0 : Nat) (a1 : Int32) (a2 : Int32) : Option (Int32 × e_H) :=
  Option.bind (e_gI h a0 8 0 0) (fun h2 =>
  Option.bind (e_is h2 a0 8) (fun _ =>
  Option.bind (f_X10_isBand h2 a0 a1) (fun x7 =>
  if x7 = 0 then
    some ((-1), h2)
  else
    Option.bind (f_X10_isIn a2 0 2) (fun x16 =>
    if x16 = 0 then
      some ((-1), h2)
    else
      if 2 ≤ a2 then
        e_bE (
            lp_X10_even_49 F a0 a1 F 0 h2
          : Option (Except (Int32 × e_H) e_H)) (fun h72_1 =>
        some (0, h72_1))
      else
        e_b2 (f_X10_isSame F h2 a0 a1 (2 - a2) 0) (fun x35 h35 =>
        if x35 = 0 then
          some (0, h35)
        else
          some (1, h35))))))
set_option maxHeartbeats 4000000 in
set_option maxRecDepth 100000 in
theorem ct_X10_even {l : Launch} {D : e_D} {B : Heap} {F : Nat} {d : Nat} {h : e_H} {a0 : Nat} {a1 : Int32} {a2 : Int32} {v : Int32} {h1 : e_H} (hd : 7 ≤ d) (e : f_X10_even F h a0 a1 a2 = some (v, h1)) : e_Run l D B d mX10_even [.ref a0, .int a1, .int a2] h (.ok (some (.int v)), h1) := by
  refine e_start [some (.ref a0), some (.int a1), some (.int a2), none] (by decide) rfl rfl rfl (Nat.le_of_ble_eq_true rfl) (fun K hl0 hD0 hB0 hM hd0 hr => ?_)
  subst hl0 hD0 hB0 hd0
  have ho : (k_M K).1.cls = "PegBandsModel" := by rw [hM]; rfl
  have hT : (k_M K).2.2.2.1 = some (.int) := by rw [hM]
  refine (show Sx K cX10_even 0 [some (.ref a0), some (.int a1), some (.int a2), none] [] h (f_X10_even F h a0 a1 a2) (fun w => w = (v, h1)) from ?_) _ e rfl
  clear e
  unfold f_X10_even
  refine S_aload_n (dc_X10_even 0 rfl) rfl ?_
  refine S_iconst_ 0 (dc_X10_even 1 rfl) rfl ?_
  refine S_putI (dc_X10_even 2 rfl) ho fl_X10_94_8_0 (fun _ _ => rfl) (Or.inl rfl) rfl rfl (fun h2 e2 => ?_)
  refine S_aload_n (dc_X10_even 3 rfl) rfl ?_
  refine S_iload_n (dc_X10_even 4 rfl) rfl ?_
  refine Sx.ask (fun _ i7 => ?_)
  refine S_roI (d := k_d K - 1) (e_callV (b := a0) (As := [.int a1]) (rest := []) ok_X10_isBand rfl (Nat.le_of_ble_eq_true rfl) (dc_X10_even 5 rfl) ho q1791 q1793 (show e_cl[8]? = some (RX10, TX10, 51) from rfl) (e_sel.of qs52) (e_is_of i7) rfl (Nat.le_of_ble_eq_true rfl)) (by omega) (fun _ e => ct_X10_isBand (by omega) e) (fun x7 e7 => ?_)
  refine S_if_eq 22 (dc_X10_even 6 rfl) rfl (fun c10 => ?_) (fun c10 => ?_)
  · refine S_iconst_ (-1) (dc_X10_even 12 rfl) rfl ?_
    exact S_iret (dc_X10_even 13 rfl) hT rfl (e_rqI hr)
  · refine S_iload_n (dc_X10_even 7 rfl) rfl ?_
    refine S_iconst_ 0 (dc_X10_even 8 rfl) rfl ?_
    refine S_iconst_ 2 (dc_X10_even 9 rfl) rfl ?_
    refine S_roI (d := k_d K - 1) (e_callS (As := [.int a2, .int 0, .int 2]) (rest := []) ok_X10_isIn rfl (Nat.le_of_ble_eq_true rfl) (dc_X10_even 10 rfl) ho q1699 q1700 rfl (Nat.le_of_ble_eq_true rfl)) (by omega) (fun _ e => ct_X10_isIn (by omega) e) (fun x16 e16 => ?_)
    refine S_if_ne 24 (dc_X10_even 11 rfl) rfl (fun c19 => ?_) (fun c19 => ?_)
    · refine S_iload_n (dc_X10_even 14 rfl) rfl ?_
      refine S_iconst_ 2 (dc_X10_even 15 rfl) rfl ?_
      refine S_icmp_ge 47 (dc_X10_even 16 rfl) rfl (fun c26 => ?_) (fun c26 => ?_)
      · refine S_iconst_ 0 (dc_X10_even 29 rfl) rfl ?_
        refine S_istore_n (L' := [some (.ref a0), some (.int a1), some (.int a2), some (.int 0)]) (dc_X10_even 30 rfl) rfl ?_
        refine Sx.regKE1 (pc2 := 72) (L2 := fun (h72_1 : e_H) => [none, none, none, none]) (st2 := fun (h72_1 : e_H) => []) (h2 := fun (h72_1 : e_H) => h72_1) ?_ (fun Q1 hK1 hE1 => ?_)
        · intro h72_1
          show Sx K cX10_even 72 [none, none, none, none] [] h72_1 _ _
          refine S_iconst_ 0 (dc_X10_even 44 rfl) rfl ?_
          exact S_iret (dc_X10_even 45 rfl) hT rfl (e_rqI hr)
        · have hK1 : ∀ (h72_1 : e_H), Sx K cX10_even 72 [none, none, none, none] [] h72_1 (some (.ok h72_1)) Q1 := hK1
          have ih1 : ∀ (n : Nat) (x3_49 : Int32) (h_49 : e_H), Sx K cX10_even 49 [some (.ref a0), some (.int a1), none, some (.int x3_49)] [] h_49 (lp_X10_even_49 F a0 a1 n x3_49 h_49) Q1 := by
            intro n
            induction n with
            | zero => intro x3_49 h_49; exact Sx.none
            | succ n ih1 =>
              intro x3_49 h_49
              rw [lp_X10_even_49.eq_2]
              refine S_iload_n (dc_X10_even 31 rfl) rfl ?_
              refine S_iconst_ 4 (dc_X10_even 32 rfl) rfl ?_
              refine S_icmp_ge 72 (dc_X10_even 33 rfl) rfl (fun c51 => ?_) (fun c51 => ?_)
              · refine Sx.cut [false, false, true, false] ?_
                exact hK1 h_49
              · refine S_aload_n (dc_X10_even 34 rfl) rfl ?_
                refine S_iload_n (dc_X10_even 35 rfl) rfl ?_
                refine S_iload_n (dc_X10_even 36 rfl) rfl ?_
                refine S_iconst_ 1 (dc_X10_even 37 rfl) rfl ?_
                refine Sx.ask (fun _ i58 => ?_)
                refine S_rwI (d := k_d K - 1) (e_callV (b := a0) (As := [.int a1, .int x3_49, .int 1]) (rest := []) ok_X10_isSame rfl (Nat.le_of_ble_eq_true rfl) (dc_X10_even 38 rfl) ho q1928 q1930 (show e_cl[8]? = some (RX10, TX10, 51) from rfl) (e_sel.of qs73) (e_is_of i58) rfl (Nat.le_of_ble_eq_true rfl)) (by omega) (fun _ _ e => ct_X10_isSame (by omega) e) (fun x58 h58 e58 => ?_)
                refine S_if_eq 66 (dc_X10_even 39 rfl) rfl (fun c61 => ?_) (fun c61 => ?_)
                · refine S_iincN 1 (L' := fun x66 => [some (.ref a0), some (.int a1), none, some (.int x66)]) (dc_X10_even 42 rfl) rfl rfl (fun _ => rfl) (fun x66 n66 => ?_)
                  refine S_goto 49 (dc_X10_even 43 rfl) rfl ?_
                  exact ih1 x66 h58
                · refine S_iconst_ 1 (dc_X10_even 40 rfl) rfl ?_
                  refine Sx.err hE1 ?_
                  exact S_iret (dc_X10_even 41 rfl) hT rfl (e_rqI hr)
          refine Sx.cut [true, true, false, true] ?_
          exact ih1 F 0 h2
      · refine S_aload_n (dc_X10_even 17 rfl) rfl ?_
        refine S_iload_n (dc_X10_even 18 rfl) rfl ?_
        refine S_iconst_ 2 (dc_X10_even 19 rfl) rfl ?_
        refine S_iload_n (dc_X10_even 20 rfl) rfl ?_
        refine S_isub (dc_X10_even 21 rfl) ?_
        refine S_iconst_ 0 (dc_X10_even 22 rfl) rfl ?_
        refine S_rwI (d := k_d K - 1) (e_callV (b := a0) (As := [.int a1, .int (2 - a2), .int 0]) (rest := []) ok_X10_isSame rfl (Nat.le_of_ble_eq_true rfl) (dc_X10_even 23 rfl) ho q1928 q1930 (show e_cl[8]? = some (RX10, TX10, 51) from rfl) (e_sel.of qs73) (e_is_of i7) rfl (Nat.le_of_ble_eq_true rfl)) (by omega) (fun _ _ e => ct_X10_isSame (by omega) e) (fun x35 h35 e35 => ?_)
        refine S_if_eq 45 (dc_X10_even 24 rfl) rfl (fun c38 => ?_) (fun c38 => ?_)
        · refine S_iconst_ 0 (dc_X10_even 27 rfl) rfl ?_
          exact S_iret (dc_X10_even 28 rfl) hT rfl (e_rqI hr)
        · refine S_iconst_ 1 (dc_X10_even 25 rfl) rfl ?_
          refine S_goto 46 (dc_X10_even 26 rfl) rfl ?_
          exact S_iret (dc_X10_even 28 rfl) hT rfl (e_rqI hr)
    · refine S_iconst_ (-1) (dc_X10_even 12 rfl) rfl ?_
      exact S_iret (dc_X10_even 13 rfl) hT rfl (e_rqI hr)
