/-! printed by gen/gen.py -/
set_option maxRecDepth 100000
abbrev cX10_mayLay : ByteArray := prog_18_method_122_code
def yX10_mayLay : MethodName := ⟨"PegBandsModel", "mayLay", "(II)Z"⟩
def tb_X10_mayLay : List (Nat × Instr × Nat) := [(0, .iload_n 1, 1), (1, .iload_n 2, 1), (2, .if_icmp .eq 44, 3), (5, .aload_n 0, 1), (6, .iload_n 1, 1), (7, .invokevirtual 432, 3), (10, .ifCond .eq 36, 3), (13, .aload_n 0, 1), (14, .iload_n 2, 1), (15, .invokevirtual 432, 3), (18, .ifCond .eq 28, 3), (21, .iload_n 1, 1), (22, .bipush 10, 2), (24, .irem, 1), (25, .iload_n 2, 1), (26, .bipush 10, 2), (28, .irem, 1), (29, .isub, 1), (30, .iload_n 1, 1), (31, .bipush 10, 2), (33, .idiv, 1), (34, .iload_n 2, 1), (35, .bipush 10, 2), (37, .idiv, 1), (38, .isub, 1), (39, .invokestatic 295, 3), (42, .iconst 1, 1), (43, .if_icmp .eq 5, 3), (46, .iconst 0, 1), (47, .ireturn, 1), (48, .iconst 0, 1), (49, .istore_n 3, 1), (50, .iload_n 3, 1), (51, .aload_n 0, 1), (52, .getfield 13, 3), (55, .sipush 261, 3), (58, .iaload, 1), (59, .if_icmp .ge 83, 3), (62, .aload_n 0, 1), (63, .getfield 13, 3), (66, .sipush 262, 3), (69, .iconst 2, 1), (70, .iload_n 3, 1), (71, .imul, 1), (72, .iadd, 1), (73, .iaload, 1), (74, .istore 4, 2), (76, .aload_n 0, 1), (77, .getfield 13, 3), (80, .sipush 262, 3), (83, .iconst 2, 1), (84, .iload_n 3, 1), (85, .imul, 1), (86, .iadd, 1), (87, .iconst 1, 1), (88, .iadd, 1), (89, .iaload, 1), (90, .istore 5, 2), (92, .iload_n 1, 1), (93, .bipush 10, 2), (95, .irem, 1), (96, .iload_n 1, 1), (97, .bipush 10, 2), (99, .idiv, 1), (100, .iload_n 2, 1), (101, .bipush 10, 2), (103, .irem, 1), (104, .iload_n 2, 1), (105, .bipush 10, 2), (107, .idiv, 1), (108, .iload 4, 2), (110, .bipush 10, 2), (112, .irem, 1), (113, .iload 4, 2), (115, .bipush 10, 2), (117, .idiv, 1), (118, .iload 5, 2), (120, .bipush 10, 2), (122, .irem, 1), (123, .iload 5, 2), (125, .bipush 10, 2), (127, .idiv, 1), (128, .invokestatic 214, 3), (131, .ifCond .le 5, 3), (134, .iconst 0, 1), (135, .ireturn, 1), (136, .iinc 3 1, 3), (139, .goto (-89), 3), (142, .iconst 1, 1), (143, .ireturn, 1)]
theorem tk_X10_mayLay : ∀ q ∈ tb_X10_mayLay, decode cX10_mayLay q.1 = .ok q.2 := by decide +kernel
theorem dc_X10_mayLay (k : Nat) {pc n : Nat} {i : Instr} (h : tb_X10_mayLay[k]? = some (pc, i, n)) : decode cX10_mayLay pc = .ok (i, n) := tk_X10_mayLay (pc, i, n) (List.mem_of_getElem? h)
abbrev mX10_mayLay : e_M := (yX10_mayLay, cX10_mayLay, 6, some (.boolean), [])
theorem ok_X10_mayLay : e_mok mX10_mayLay 2 := ⟨q2082, q119, by decide +kernel, fun sig h => by cases h; rfl⟩
def lp_X10_mayLay_50 (F : Nat) (h : e_H) (a0 : Nat) (a1 : Int32) (a2 : Int32) : Nat → Int32 → Option (Except Int32 Unit)
  | 0, _ => none
  | n + 1, x3_50 =>
    Option.bind (e_fA h a0 8 15) (fun x52 =>
    Option.bind (e_aI h x52 0 261) (fun x58 =>
    if x58 ≤ x3_50 then
      some (.ok ())
    else
      Option.bind (e_fA h a0 8 15) (fun x63 =>
      Option.bind (e_aI h x63 0 (262 + (2 * x3_50))) (fun x73 =>
      Option.bind (e_fA h a0 8 15) (fun x77 =>
      Option.bind (e_aI h x77 0 ((262 + (2 * x3_50)) + 1)) (fun x89 =>
      Option.bind (f_X10_meet (a1 - a1 / 10 * 10) (a1 / 10) (a2 - a2 / 10 * 10) (a2 / 10) (x73 - x73 / 10 * 10) (x73 / 10) (x89 - x89 / 10 * 10) (x89 / 10)) (fun x128 =>
      if x128 ≤ 0 then
        Option.bind (some (x3_50 + 1)) (fun x136 =>
        lp_X10_mayLay_50 F h a0 a1 a2 n x136)
      else
        some (.error 0))))))))
def f_X10_mayLay (F : Nat) (h : e_H) (a0 : Nat) (a1 : Int32) (a2 : Int32) : Option Int32 :=
  if a1 = a2 then
    some 0
  else
    Option.bind (e_is h a0 8) (fun _ =>
    Option.bind (f_X10_isFreeEnd F h a0 a1) (fun x7 =>
    if x7 = 0 then
      some 0
    else
      Option.bind (f_X10_isFreeEnd F h a0 a2) (fun x15 =>
      if x15 = 0 then
        some 0
      else
        Option.bind (f_X10_common F ((a1 - a1 / 10 * 10) - (a2 - a2 / 10 * 10)) ((a1 / 10) - (a2 / 10))) (fun x39 =>
        if x39 = 1 then
          e_bE (
              lp_X10_mayLay_50 F h a0 a1 a2 F 0
            : Option (Except Int32 Unit)) (fun _ =>
          some 1)
        else
          some 0))))
set_option maxHeartbeats 4000000 in
set_option maxRecDepth 100000 in
theorem ct_X10_mayLay {l : Launch} {D : e_D} {B : Heap} {F : Nat} {d : Nat} {h : e_H} {a0 : Nat} {a1 : Int32} {a2 : Int32} {v : Int32} (hd : 5 ≤ d) (e : f_X10_mayLay F h a0 a1 a2 = some v) : e_Run l D B d mX10_mayLay [.ref a0, .int a1, .int a2] h (.ok (some (.int v)), h) := by
  refine e_start [some (.ref a0), some (.int a1), some (.int a2), none, none, none] (by decide) rfl rfl rfl (Nat.le_of_ble_eq_true rfl) (fun K hl0 hD0 hB0 hM hd0 hr => ?_)
  subst hl0 hD0 hB0 hd0
  have ho : (k_M K).1.cls = "PegBandsModel" := by rw [hM]; rfl
  have hT : (k_M K).2.2.2.1 = some (.boolean) := by rw [hM]
  refine (show Sx K cX10_mayLay 0 [some (.ref a0), some (.int a1), some (.int a2), none, none, none] [] h (f_X10_mayLay F h a0 a1 a2) (fun w => w = v) from ?_) _ e rfl
  clear e
  unfold f_X10_mayLay
  refine S_iload_n (dc_X10_mayLay 0 rfl) rfl ?_
  refine S_iload_n (dc_X10_mayLay 1 rfl) rfl ?_
  refine S_icmp_eq 46 (dc_X10_mayLay 2 rfl) rfl (fun c2 => ?_) (fun c2 => ?_)
  · refine S_iconst_ 0 (dc_X10_mayLay 28 rfl) rfl ?_
    exact S_iret (dc_X10_mayLay 29 rfl) hT rfl (fun q => by cases q; exact hr)
  · refine S_aload_n (dc_X10_mayLay 3 rfl) rfl ?_
    refine S_iload_n (dc_X10_mayLay 4 rfl) rfl ?_
    refine Sx.ask (fun _ i7 => ?_)
    refine S_roI (d := k_d K - 1) (e_callV (b := a0) (As := [.int a1]) (rest := []) ok_X10_isFreeEnd rfl (Nat.le_of_ble_eq_true rfl) (dc_X10_mayLay 5 rfl) ho q2083 q2085 (show e_cl[8]? = some (RX10, TX10, 51) from rfl) (e_sel.of qs95) (e_is_of i7) rfl (Nat.le_of_ble_eq_true rfl)) (by omega) (fun _ e => ct_X10_isFreeEnd (by omega) e) (fun x7 e7 => ?_)
    refine S_if_eq 46 (dc_X10_mayLay 6 rfl) rfl (fun c10 => ?_) (fun c10 => ?_)
    · refine S_iconst_ 0 (dc_X10_mayLay 28 rfl) rfl ?_
      exact S_iret (dc_X10_mayLay 29 rfl) hT rfl (fun q => by cases q; exact hr)
    · refine S_aload_n (dc_X10_mayLay 7 rfl) rfl ?_
      refine S_iload_n (dc_X10_mayLay 8 rfl) rfl ?_
      refine S_roI (d := k_d K - 1) (e_callV (b := a0) (As := [.int a2]) (rest := []) ok_X10_isFreeEnd rfl (Nat.le_of_ble_eq_true rfl) (dc_X10_mayLay 9 rfl) ho q2083 q2085 (show e_cl[8]? = some (RX10, TX10, 51) from rfl) (e_sel.of qs95) (e_is_of i7) rfl (Nat.le_of_ble_eq_true rfl)) (by omega) (fun _ e => ct_X10_isFreeEnd (by omega) e) (fun x15 e15 => ?_)
      refine S_if_eq 46 (dc_X10_mayLay 10 rfl) rfl (fun c18 => ?_) (fun c18 => ?_)
      · refine S_iconst_ 0 (dc_X10_mayLay 28 rfl) rfl ?_
        exact S_iret (dc_X10_mayLay 29 rfl) hT rfl (fun q => by cases q; exact hr)
      · refine S_iload_n (dc_X10_mayLay 11 rfl) rfl ?_
        refine S_bipush_ 10 (dc_X10_mayLay 12 rfl) rfl ?_
        refine S_irem (dc_X10_mayLay 13 rfl) (by decide) ?_
        refine S_iload_n (dc_X10_mayLay 14 rfl) rfl ?_
        refine S_bipush_ 10 (dc_X10_mayLay 15 rfl) rfl ?_
        refine S_irem (dc_X10_mayLay 16 rfl) (by decide) ?_
        refine S_isub (dc_X10_mayLay 17 rfl) ?_
        refine S_iload_n (dc_X10_mayLay 18 rfl) rfl ?_
        refine S_bipush_ 10 (dc_X10_mayLay 19 rfl) rfl ?_
        refine S_idiv (dc_X10_mayLay 20 rfl) (by decide) ?_
        refine S_iload_n (dc_X10_mayLay 21 rfl) rfl ?_
        refine S_bipush_ 10 (dc_X10_mayLay 22 rfl) rfl ?_
        refine S_idiv (dc_X10_mayLay 23 rfl) (by decide) ?_
        refine S_isub (dc_X10_mayLay 24 rfl) ?_
        refine S_roI (d := k_d K - 1) (e_callS (As := [.int ((a1 - a1 / 10 * 10) - (a2 - a2 / 10 * 10)), .int ((a1 / 10) - (a2 / 10))]) (rest := []) ok_X10_common rfl (Nat.le_of_ble_eq_true rfl) (dc_X10_mayLay 25 rfl) ho q1830 q1831 rfl (Nat.le_of_ble_eq_true rfl)) (by omega) (fun _ e => ct_X10_common (by omega) e) (fun x39 e39 => ?_)
        refine S_iconst_ 1 (dc_X10_mayLay 26 rfl) rfl ?_
        refine S_icmp_eq 48 (dc_X10_mayLay 27 rfl) rfl (fun c43 => ?_) (fun c43 => ?_)
        · refine S_iconst_ 0 (dc_X10_mayLay 30 rfl) rfl ?_
          refine S_istore_n (L' := [some (.ref a0), some (.int a1), some (.int a2), some (.int 0), none, none]) (dc_X10_mayLay 31 rfl) rfl ?_
          refine Sx.regKE0 (pc2 := 142) (L2 := [none, none, none, none, none, none]) (st2 := []) (h2 := h) ?_ (fun Q1 hK1 hE1 => ?_)
          · skip
            refine S_iconst_ 1 (dc_X10_mayLay 88 rfl) rfl ?_
            exact S_iret (dc_X10_mayLay 89 rfl) hT rfl (fun q => by cases q; exact hr)
          · have hK1 : Sx K cX10_mayLay 142 [none, none, none, none, none, none] [] h (some (.ok ())) Q1 := hK1
            have ih1 : ∀ (n : Nat) (x3_50 : Int32), Sx K cX10_mayLay 50 [some (.ref a0), some (.int a1), some (.int a2), some (.int x3_50), none, none] [] h (lp_X10_mayLay_50 F h a0 a1 a2 n x3_50) Q1 := by
              intro n
              induction n with
              | zero => intro x3_50; exact Sx.none
              | succ n ih1 =>
                intro x3_50
                rw [lp_X10_mayLay_50.eq_2]
                refine S_iload_n (dc_X10_mayLay 32 rfl) rfl ?_
                refine S_aload_n (dc_X10_mayLay 33 rfl) rfl ?_
                refine S_getA (dc_X10_mayLay 34 rfl) ho fl_X10_13_8_15 (fun _ _ => rfl) (fun x52 e52 => ?_)
                refine S_sipush_ 261 (dc_X10_mayLay 35 rfl) rfl ?_
                refine S_iald (dc_X10_mayLay 36 rfl) (fun x58 e58 => ?_)
                refine S_icmp_ge 142 (dc_X10_mayLay 37 rfl) rfl (fun c59 => ?_) (fun c59 => ?_)
                · refine Sx.cut [false, false, false, false, true, true] ?_
                  exact hK1
                · refine S_aload_n (dc_X10_mayLay 38 rfl) rfl ?_
                  refine S_getA (dc_X10_mayLay 39 rfl) ho fl_X10_13_8_15 (fun _ _ => rfl) (fun x63 e63 => ?_)
                  refine S_sipush_ 262 (dc_X10_mayLay 40 rfl) rfl ?_
                  refine S_iconst_ 2 (dc_X10_mayLay 41 rfl) rfl ?_
                  refine S_iload_n (dc_X10_mayLay 42 rfl) rfl ?_
                  refine S_imul (dc_X10_mayLay 43 rfl) ?_
                  refine S_iadd (dc_X10_mayLay 44 rfl) ?_
                  refine S_iald (dc_X10_mayLay 45 rfl) (fun x73 e73 => ?_)
                  refine S_istore (L' := [some (.ref a0), some (.int a1), some (.int a2), some (.int x3_50), some (.int x73), none]) (dc_X10_mayLay 46 rfl) rfl ?_
                  refine S_aload_n (dc_X10_mayLay 47 rfl) rfl ?_
                  refine S_getA (dc_X10_mayLay 48 rfl) ho fl_X10_13_8_15 (fun _ _ => rfl) (fun x77 e77 => ?_)
                  refine S_sipush_ 262 (dc_X10_mayLay 49 rfl) rfl ?_
                  refine S_iconst_ 2 (dc_X10_mayLay 50 rfl) rfl ?_
                  refine S_iload_n (dc_X10_mayLay 51 rfl) rfl ?_
                  refine S_imul (dc_X10_mayLay 52 rfl) ?_
                  refine S_iadd (dc_X10_mayLay 53 rfl) ?_
                  refine S_iconst_ 1 (dc_X10_mayLay 54 rfl) rfl ?_
                  refine S_iadd (dc_X10_mayLay 55 rfl) ?_
                  refine S_iald (dc_X10_mayLay 56 rfl) (fun x89 e89 => ?_)
                  refine S_istore (L' := [some (.ref a0), some (.int a1), some (.int a2), some (.int x3_50), some (.int x73), some (.int x89)]) (dc_X10_mayLay 57 rfl) rfl ?_
                  refine S_iload_n (dc_X10_mayLay 58 rfl) rfl ?_
                  refine S_bipush_ 10 (dc_X10_mayLay 59 rfl) rfl ?_
                  refine S_irem (dc_X10_mayLay 60 rfl) (by decide) ?_
                  refine S_iload_n (dc_X10_mayLay 61 rfl) rfl ?_
                  refine S_bipush_ 10 (dc_X10_mayLay 62 rfl) rfl ?_
                  refine S_idiv (dc_X10_mayLay 63 rfl) (by decide) ?_
                  refine S_iload_n (dc_X10_mayLay 64 rfl) rfl ?_
                  refine S_bipush_ 10 (dc_X10_mayLay 65 rfl) rfl ?_
                  refine S_irem (dc_X10_mayLay 66 rfl) (by decide) ?_
                  refine S_iload_n (dc_X10_mayLay 67 rfl) rfl ?_
                  refine S_bipush_ 10 (dc_X10_mayLay 68 rfl) rfl ?_
                  refine S_idiv (dc_X10_mayLay 69 rfl) (by decide) ?_
                  refine S_iload (dc_X10_mayLay 70 rfl) rfl ?_
                  refine S_bipush_ 10 (dc_X10_mayLay 71 rfl) rfl ?_
                  refine S_irem (dc_X10_mayLay 72 rfl) (by decide) ?_
                  refine S_iload (dc_X10_mayLay 73 rfl) rfl ?_
                  refine S_bipush_ 10 (dc_X10_mayLay 74 rfl) rfl ?_
                  refine S_idiv (dc_X10_mayLay 75 rfl) (by decide) ?_
                  refine S_iload (dc_X10_mayLay 76 rfl) rfl ?_
                  refine S_bipush_ 10 (dc_X10_mayLay 77 rfl) rfl ?_
                  refine S_irem (dc_X10_mayLay 78 rfl) (by decide) ?_
                  refine S_iload (dc_X10_mayLay 79 rfl) rfl ?_
                  refine S_bipush_ 10 (dc_X10_mayLay 80 rfl) rfl ?_
                  refine S_idiv (dc_X10_mayLay 81 rfl) (by decide) ?_
                  refine S_roI (d := k_d K - 1) (e_callS (As := [.int (a1 - a1 / 10 * 10), .int (a1 / 10), .int (a2 - a2 / 10 * 10), .int (a2 / 10), .int (x73 - x73 / 10 * 10), .int (x73 / 10), .int (x89 - x89 / 10 * 10), .int (x89 / 10)]) (rest := []) ok_X10_meet rfl (Nat.le_of_ble_eq_true rfl) (dc_X10_mayLay 82 rfl) ho q1759 q1760 rfl (Nat.le_of_ble_eq_true rfl)) (by omega) (fun _ e => ct_X10_meet (by omega) e) (fun x128 e128 => ?_)
                  refine S_if_le 136 (dc_X10_mayLay 83 rfl) rfl (fun c131 => ?_) (fun c131 => ?_)
                  · refine S_iincN 1 (L' := fun x136 => [some (.ref a0), some (.int a1), some (.int a2), some (.int x136), some (.int x73), some (.int x89)]) (dc_X10_mayLay 86 rfl) rfl rfl (fun _ => rfl) (fun x136 n136 => ?_)
                    refine S_goto 50 (dc_X10_mayLay 87 rfl) rfl ?_
                    refine Sx.cut [true, true, true, true, false, false] ?_
                    exact ih1 x136
                  · refine S_iconst_ 0 (dc_X10_mayLay 84 rfl) rfl ?_
                    refine Sx.err hE1 ?_
                    exact S_iret (dc_X10_mayLay 85 rfl) hT rfl (fun q => by cases q; exact hr)
            exact ih1 F 0
        · refine S_iconst_ 0 (dc_X10_mayLay 28 rfl) rfl ?_
          exact S_iret (dc_X10_mayLay 29 rfl) hT rfl (fun q => by cases q; exact hr)
abbrev cX10_layLine : ByteArray := prog_18_method_123_code
def yX10_layLine : MethodName := ⟨"PegBandsModel", "layLine", "(II)V"⟩
def tb_X10_layLine : List (Nat × Instr × Nat) := [(0, .aload_n 0, 1), (1, .getfield 13, 3), (4, .sipush 262, 3), (7, .iconst 2, 1), (8, .aload_n 0, 1), (9, .getfield 13, 3), (12, .sipush 261, 3), (15, .iaload, 1), (16, .imul, 1), (17, .iadd, 1), (18, .iload_n 1, 1), (19, .iastore, 1), (20, .aload_n 0, 1), (21, .getfield 13, 3), (24, .sipush 262, 3), (27, .iconst 2, 1), (28, .aload_n 0, 1), (29, .getfield 13, 3), (32, .sipush 261, 3), (35, .iaload, 1), (36, .imul, 1), (37, .iadd, 1), (38, .iconst 1, 1), (39, .iadd, 1), (40, .iload_n 2, 1), (41, .iastore, 1), (42, .aload_n 0, 1), (43, .getfield 13, 3), (46, .sipush 261, 3), (49, .dup2, 1), (50, .iaload, 1), (51, .iconst 1, 1), (52, .iadd, 1), (53, .iastore, 1), (54, .return_, 1)]
theorem tk_X10_layLine : ∀ q ∈ tb_X10_layLine, decode cX10_layLine q.1 = .ok q.2 := by decide +kernel
theorem dc_X10_layLine (k : Nat) {pc n : Nat} {i : Instr} (h : tb_X10_layLine[k]? = some (pc, i, n)) : decode cX10_layLine pc = .ok (i, n) := tk_X10_layLine (pc, i, n) (List.mem_of_getElem? h)
abbrev mX10_layLine : e_M := (yX10_layLine, cX10_layLine, 3, none, [])
theorem ok_X10_layLine : e_mok mX10_layLine 2 := ⟨q2090, q119, by decide +kernel, fun sig h => by cases h; rfl⟩
def f_X10_layLine (h : e_H) (a0 : Nat) (a1 : Int32) (a2 : Int32) : Option e_H :=
  Option.bind (e_fA h a0 8 15) (fun x1 =>
  Option.bind (e_fA h a0 8 15) (fun x9 =>
  Option.bind (e_aI h x9 0 261) (fun x15 =>
  Option.bind (e_wI h x1 0 (262 + (2 * x15)) a1) (fun h19 =>
  Option.bind (e_fA h19 a0 8 15) (fun x21 =>
  Option.bind (e_fA h19 a0 8 15) (fun x29 =>
  Option.bind (e_aI h19 x29 0 261) (fun x35 =>
  Option.bind (e_wI h19 x21 0 ((262 + (2 * x35)) + 1) a2) (fun h41 =>
  Option.bind (e_fA h41 a0 8 15) (fun x43 =>
  Option.bind (e_aI h41 x43 0 261) (fun x50 =>
  Option.bind (e_wI h41 x43 0 261 (x50 + 1)) (fun h53 =>
  some h53)))))))))))
set_option maxHeartbeats 4000000 in
set_option maxRecDepth 100000 in
theorem ct_X10_layLine {l : Launch} {D : e_D} {B : Heap} {d : Nat} {h : e_H} {a0 : Nat} {a1 : Int32} {a2 : Int32} {h1 : e_H} (hd : 1 ≤ d) (e : f_X10_layLine h a0 a1 a2 = some h1) : e_Run l D B d mX10_layLine [.ref a0, .int a1, .int a2] h (.ok none, h1) := by
  refine e_start [some (.ref a0), some (.int a1), some (.int a2)] (by decide) rfl rfl rfl (Nat.le_of_ble_eq_true rfl) (fun K hl0 hD0 hB0 hM hd0 hr => ?_)
  subst hl0 hD0 hB0 hd0
  have ho : (k_M K).1.cls = "PegBandsModel" := by rw [hM]; rfl
  have hT : (k_M K).2.2.2.1 = none := by rw [hM]
  refine (show Sx K cX10_layLine 0 [some (.ref a0), some (.int a1), some (.int a2)] [] h (f_X10_layLine h a0 a1 a2) (fun w => w = h1) from ?_) _ e rfl
  clear e
  unfold f_X10_layLine
  refine S_aload_n (dc_X10_layLine 0 rfl) rfl ?_
  refine S_getA (dc_X10_layLine 1 rfl) ho fl_X10_13_8_15 (fun _ _ => rfl) (fun x1 e1 => ?_)
  refine S_sipush_ 262 (dc_X10_layLine 2 rfl) rfl ?_
  refine S_iconst_ 2 (dc_X10_layLine 3 rfl) rfl ?_
  refine S_aload_n (dc_X10_layLine 4 rfl) rfl ?_
  refine S_getA (dc_X10_layLine 5 rfl) ho fl_X10_13_8_15 (fun _ _ => rfl) (fun x9 e9 => ?_)
  refine S_sipush_ 261 (dc_X10_layLine 6 rfl) rfl ?_
  refine S_iald (dc_X10_layLine 7 rfl) (fun x15 e15 => ?_)
  refine S_imul (dc_X10_layLine 8 rfl) ?_
  refine S_iadd (dc_X10_layLine 9 rfl) ?_
  refine S_iload_n (dc_X10_layLine 10 rfl) rfl ?_
  refine S_iast (dc_X10_layLine 11 rfl) (fun h19 e19 => ?_)
  refine S_aload_n (dc_X10_layLine 12 rfl) rfl ?_
  refine S_getA (dc_X10_layLine 13 rfl) ho fl_X10_13_8_15 (fun _ _ => rfl) (fun x21 e21 => ?_)
  refine S_sipush_ 262 (dc_X10_layLine 14 rfl) rfl ?_
  refine S_iconst_ 2 (dc_X10_layLine 15 rfl) rfl ?_
  refine S_aload_n (dc_X10_layLine 16 rfl) rfl ?_
  refine S_getA (dc_X10_layLine 17 rfl) ho fl_X10_13_8_15 (fun _ _ => rfl) (fun x29 e29 => ?_)
  refine S_sipush_ 261 (dc_X10_layLine 18 rfl) rfl ?_
  refine S_iald (dc_X10_layLine 19 rfl) (fun x35 e35 => ?_)
  refine S_imul (dc_X10_layLine 20 rfl) ?_
  refine S_iadd (dc_X10_layLine 21 rfl) ?_
  refine S_iconst_ 1 (dc_X10_layLine 22 rfl) rfl ?_
  refine S_iadd (dc_X10_layLine 23 rfl) ?_
  refine S_iload_n (dc_X10_layLine 24 rfl) rfl ?_
  refine S_iast (dc_X10_layLine 25 rfl) (fun h41 e41 => ?_)
  refine S_aload_n (dc_X10_layLine 26 rfl) rfl ?_
  refine S_getA (dc_X10_layLine 27 rfl) ho fl_X10_13_8_15 (fun _ _ => rfl) (fun x43 e43 => ?_)
  refine S_sipush_ 261 (dc_X10_layLine 28 rfl) rfl ?_
  refine S_dup2 (dc_X10_layLine 29 rfl) rfl rfl ?_
  refine S_iald (dc_X10_layLine 30 rfl) (fun x50 e50 => ?_)
  refine S_iconst_ 1 (dc_X10_layLine 31 rfl) rfl ?_
  refine S_iadd (dc_X10_layLine 32 rfl) ?_
  refine S_iast (dc_X10_layLine 33 rfl) (fun h53 e53 => ?_)
  exact S_vret (dc_X10_layLine 34 rfl) hT (fun q => by cases q; exact hr)
abbrev cX10_line : ByteArray := prog_18_method_124_code
def yX10_line : MethodName := ⟨"PegBandsModel", "line", "(II)Z"⟩
def tb_X10_line : List (Nat × Instr × Nat) := [(0, .aload_n 0, 1), (1, .iconst 0, 1), (2, .putfield 94, 3), (5, .aload_n 0, 1), (6, .invokevirtual 435, 3), (9, .ifCond .eq 12, 3), (12, .aload_n 0, 1), (13, .iload_n 1, 1), (14, .iload_n 2, 1), (15, .invokevirtual 438, 3), (18, .ifCond .ne 5, 3), (21, .iconst 0, 1), (22, .ireturn, 1), (23, .aload_n 0, 1), (24, .iload_n 1, 1), (25, .iload_n 2, 1), (26, .invokevirtual 441, 3), (29, .iconst 1, 1), (30, .ireturn, 1)]
theorem tk_X10_line : ∀ q ∈ tb_X10_line, decode cX10_line q.1 = .ok q.2 := by decide +kernel
theorem dc_X10_line (k : Nat) {pc n : Nat} {i : Instr} (h : tb_X10_line[k]? = some (pc, i, n)) : decode cX10_line pc = .ok (i, n) := tk_X10_line (pc, i, n) (List.mem_of_getElem? h)
abbrev mX10_line : e_M := (yX10_line, cX10_line, 3, some (.boolean), [])
theorem ok_X10_line : e_mok mX10_line 2 := ⟨q2074, q119, by decide +kernel, fun sig h => by cases h; rfl⟩
def f_X10_line (F : Nat) (h : e_H) (a0 : Nat) (a1 : Int32) (a2 : Int32) : Option (Int32 × e_H) :=
  Option.bind (e_gI h a0 8 0 0) (fun h2 =>
  Option.bind (e_is h2 a0 8) (fun _ =>
  Option.bind (f_X10_isSmall h2 a0) (fun x6 =>
  if x6 = 0 then
    some (0, h2)
  else
    Option.bind (f_X10_mayLay F h2 a0 a1 a2) (fun x15 =>
    if x15 = 0 then
      some (0, h2)
    else
      Option.bind (f_X10_layLine h2 a0 a1 a2) (fun h26 =>
      some (1, h26))))))
set_option maxHeartbeats 4000000 in
set_option maxRecDepth 100000 in
theorem ct_X10_line {l : Launch} {D : e_D} {B : Heap} {F : Nat} {d : Nat} {h : e_H} {a0 : Nat} {a1 : Int32} {a2 : Int32} {v : Int32} {h1 : e_H} (hd : 6 ≤ d) (e : f_X10_line F h a0 a1 a2 = some (v, h1)) : e_Run l D B d mX10_line [.ref a0, .int a1, .int a2] h (.ok (some (.int v)), h1) := by
  refine e_start [some (.ref a0), some (.int a1), some (.int a2)] (by decide) rfl rfl rfl (Nat.le_of_ble_eq_true rfl) (fun K hl0 hD0 hB0 hM hd0 hr => ?_)
  subst hl0 hD0 hB0 hd0
  have ho : (k_M K).1.cls = "PegBandsModel" := by rw [hM]; rfl
  have hT : (k_M K).2.2.2.1 = some (.boolean) := by rw [hM]
  refine (show Sx K cX10_line 0 [some (.ref a0), some (.int a1), some (.int a2)] [] h (f_X10_line F h a0 a1 a2) (fun w => w = (v, h1)) from ?_) _ e rfl
  clear e
  unfold f_X10_line
  refine S_aload_n (dc_X10_line 0 rfl) rfl ?_
  refine S_iconst_ 0 (dc_X10_line 1 rfl) rfl ?_
  refine S_putI (dc_X10_line 2 rfl) ho fl_X10_94_8_0 (fun _ _ => rfl) (Or.inl rfl) rfl rfl (fun h2 e2 => ?_)
  refine S_aload_n (dc_X10_line 3 rfl) rfl ?_
  refine Sx.ask (fun _ i6 => ?_)
  refine S_roI (d := k_d K - 1) (e_callV (b := a0) (As := []) (rest := []) ok_X10_isSmall rfl (Nat.le_of_ble_eq_true rfl) (dc_X10_line 4 rfl) ho q2075 q2077 (show e_cl[8]? = some (RX10, TX10, 51) from rfl) (e_sel.of qs93) (e_is_of i6) rfl (Nat.le_of_ble_eq_true rfl)) (by omega) (fun _ e => ct_X10_isSmall (by omega) e) (fun x6 e6 => ?_)
  refine S_if_eq 21 (dc_X10_line 5 rfl) rfl (fun c9 => ?_) (fun c9 => ?_)
  · refine S_iconst_ 0 (dc_X10_line 11 rfl) rfl ?_
    exact S_iret (dc_X10_line 12 rfl) hT rfl (e_rqI hr)
  · refine S_aload_n (dc_X10_line 6 rfl) rfl ?_
    refine S_iload_n (dc_X10_line 7 rfl) rfl ?_
    refine S_iload_n (dc_X10_line 8 rfl) rfl ?_
    refine S_roI (d := k_d K - 1) (e_callV (b := a0) (As := [.int a1, .int a2]) (rest := []) ok_X10_mayLay rfl (Nat.le_of_ble_eq_true rfl) (dc_X10_line 9 rfl) ho q2079 q2081 (show e_cl[8]? = some (RX10, TX10, 51) from rfl) (e_sel.of qs94) (e_is_of i6) rfl (Nat.le_of_ble_eq_true rfl)) (by omega) (fun _ e => ct_X10_mayLay (by omega) e) (fun x15 e15 => ?_)
    refine S_if_ne 23 (dc_X10_line 10 rfl) rfl (fun c18 => ?_) (fun c18 => ?_)
    · refine S_aload_n (dc_X10_line 13 rfl) rfl ?_
      refine S_iload_n (dc_X10_line 14 rfl) rfl ?_
      refine S_iload_n (dc_X10_line 15 rfl) rfl ?_
      refine S_rwV (d := k_d K - 1) (e_callV (b := a0) (As := [.int a1, .int a2]) (rest := []) ok_X10_layLine rfl (Nat.le_of_ble_eq_true rfl) (dc_X10_line 16 rfl) ho q2087 q2089 (show e_cl[8]? = some (RX10, TX10, 51) from rfl) (e_sel.of qs96) (e_is_of i6) rfl (Nat.le_of_ble_eq_true rfl)) (by omega) (fun _ e => ct_X10_layLine (by omega) e) (fun h26 e26 => ?_)
      refine S_iconst_ 1 (dc_X10_line 17 rfl) rfl ?_
      exact S_iret (dc_X10_line 18 rfl) hT rfl (e_rqI hr)
    · refine S_iconst_ 0 (dc_X10_line 11 rfl) rfl ?_
      exact S_iret (dc_X10_line 12 rfl) hT rfl (e_rqI hr)
abbrev cX10_lines : ByteArray := prog_18_method_125_code
def yX10_lines : MethodName := ⟨"PegBandsModel", "lines", "(I)I"⟩
def tb_X10_lines : List (Nat × Instr × Nat) := [(0, .aload_n 0, 1), (1, .iconst 0, 1), (2, .putfield 94, 3), (5, .aload_n 0, 1), (6, .invokevirtual 435, 3), (9, .ifCond .ne 5, 3), (12, .iconst (-1), 1), (13, .ireturn, 1), (14, .iconst 0, 1), (15, .istore_n 2, 1), (16, .iconst 0, 1), (17, .istore_n 3, 1), (18, .iload_n 3, 1), (19, .bipush 100, 2), (21, .if_icmp .ge 64, 3), (24, .iload_n 3, 1), (25, .iconst 1, 1), (26, .iadd, 1), (27, .istore 4, 2), (29, .iload 4, 2), (31, .bipush 100, 2), (33, .if_icmp .ge 46, 3), (36, .aload_n 0, 1), (37, .iload_n 3, 1), (38, .invokevirtual 282, 3), (41, .ifCond .eq 32, 3), (44, .aload_n 0, 1), (45, .iload_n 3, 1), (46, .iload 4, 2), (48, .invokevirtual 438, 3), (51, .ifCond .ne 6, 3), (54, .goto 19, 3), (57, .iload_n 2, 1), (58, .iload_n 1, 1), (59, .if_icmp .ne 11, 3), (62, .bipush 100, 2), (64, .iload_n 3, 1), (65, .imul, 1), (66, .iload 4, 2), (68, .iadd, 1), (69, .ireturn, 1), (70, .iinc 2 1, 3), (73, .iinc 4 1, 3), (76, .goto (-47), 3), (79, .iinc 3 1, 3), (82, .goto (-64), 3), (85, .iload_n 1, 1), (86, .iconst (-1), 1), (87, .if_icmp .ne 7, 3), (90, .iload_n 2, 1), (91, .goto 4, 3), (94, .iconst (-1), 1), (95, .ireturn, 1)]
theorem tk_X10_lines : ∀ q ∈ tb_X10_lines, decode cX10_lines q.1 = .ok q.2 := by decide +kernel
theorem dc_X10_lines (k : Nat) {pc n : Nat} {i : Instr} (h : tb_X10_lines[k]? = some (pc, i, n)) : decode cX10_lines pc = .ok (i, n) := tk_X10_lines (pc, i, n) (List.mem_of_getElem? h)
abbrev mX10_lines : e_M := (yX10_lines, cX10_lines, 5, some (.int), [])
theorem ok_X10_lines : e_mok mX10_lines 1 := ⟨q2094, q119, by decide +kernel, fun sig h => by cases h; rfl⟩
def lp_X10_lines_29 (F : Nat) (h2 : e_H) (a0 : Nat) (a1 : Int32) (x3_18 : Int32) : Nat → Int32 → Int32 → Option (Except (Except (Int32 × e_H) Int32) Int32)
  | 0, _, _ => none
  | n + 1, x2_29, x4_29 =>
    if 100 ≤ x4_29 then
      some (.ok x2_29)
    else
      Option.bind (f_X10_isAt h2 a0 x3_18) (fun x38 =>
      e_bE (
          if x38 = 0 then
            some (.ok x2_29)
          else
            Option.bind (f_X10_mayLay F h2 a0 x3_18 x4_29) (fun x48 =>
            if x48 = 0 then
              some (.ok x2_29)
            else
              if x2_29 = a1 then
                some (.error (.error (.error (((100 * x3_18) + x4_29), h2))))
              else
                Option.bind (some (x2_29 + 1)) (fun x70 =>
                some (.ok x70)))
        : Option (Except (Except (Except (Int32 × e_H) Int32) Int32) Int32)) (fun x2_73_3 =>
      Option.bind (some (x4_29 + 1)) (fun x73 =>
      lp_X10_lines_29 F h2 a0 a1 x3_18 n x2_73_3 x73)))
def lp_X10_lines_18 (F : Nat) (h2 : e_H) (a0 : Nat) (a1 : Int32) : Nat → Int32 → Int32 → Option (Except (Int32 × e_H) Int32)
  | 0, _, _ => none
  | n + 1, x2_18, x3_18 =>
    if 100 ≤ x3_18 then
      some (.ok x2_18)
    else
      Option.bind (some (x3_18 + 1)) (fun x27 =>
      e_bE (
          lp_X10_lines_29 F h2 a0 a1 x3_18 F x2_18 x27
        : Option (Except (Except (Int32 × e_H) Int32) Int32)) (fun x2_79_2 =>
      Option.bind (some (x3_18 + 1)) (fun x79 =>
      lp_X10_lines_18 F h2 a0 a1 n x2_79_2 x79)))
def f_X10_lines (F : Nat) (h : e_H) (a0 : Nat) (a1 : Int32) : Option (Int32 × e_H) :=
  Option.bind (e_gI h a0 8 0 0) (fun h2 =>
  Option.bind (e_is h2 a0 8) (fun _ =>
  Option.bind (f_X10_isSmall h2 a0) (fun x6 =>
  if x6 = 0 then
    some ((-1), h2)
  else
    e_bE (
        lp_X10_lines_18 F h2 a0 a1 F 0 0
      : Option (Except (Int32 × e_H) Int32)) (fun x2_85_1 =>
    if a1 = (-1) then
      some (x2_85_1, h2)
    else
      some ((-1), h2)))))
set_option maxHeartbeats 4000000 in
set_option maxRecDepth 100000 in
theorem ct_X10_lines {l : Launch} {D : e_D} {B : Heap} {F : Nat} {d : Nat} {h : e_H} {a0 : Nat} {a1 : Int32} {v : Int32} {h1 : e_H} (hd : 6 ≤ d) (e : f_X10_lines F h a0 a1 = some (v, h1)) : e_Run l D B d mX10_lines [.ref a0, .int a1] h (.ok (some (.int v)), h1) := by
  refine e_start [some (.ref a0), some (.int a1), none, none, none] (by decide) rfl rfl rfl (Nat.le_of_ble_eq_true rfl) (fun K hl0 hD0 hB0 hM hd0 hr => ?_)
  subst hl0 hD0 hB0 hd0
  have ho : (k_M K).1.cls = "PegBandsModel" := by rw [hM]; rfl
  have hT : (k_M K).2.2.2.1 = some (.int) := by rw [hM]
  refine (show Sx K cX10_lines 0 [some (.ref a0), some (.int a1), none, none, none] [] h (f_X10_lines F h a0 a1) (fun w => w = (v, h1)) from ?_) _ e rfl
  clear e
  unfold f_X10_lines
  refine S_aload_n (dc_X10_lines 0 rfl) rfl ?_
  refine S_iconst_ 0 (dc_X10_lines 1 rfl) rfl ?_
  refine S_putI (dc_X10_lines 2 rfl) ho fl_X10_94_8_0 (fun _ _ => rfl) (Or.inl rfl) rfl rfl (fun h2 e2 => ?_)
  refine S_aload_n (dc_X10_lines 3 rfl) rfl ?_
  refine Sx.ask (fun _ i6 => ?_)
  refine S_roI (d := k_d K - 1) (e_callV (b := a0) (As := []) (rest := []) ok_X10_isSmall rfl (Nat.le_of_ble_eq_true rfl) (dc_X10_lines 4 rfl) ho q2075 q2077 (show e_cl[8]? = some (RX10, TX10, 51) from rfl) (e_sel.of qs93) (e_is_of i6) rfl (Nat.le_of_ble_eq_true rfl)) (by omega) (fun _ e => ct_X10_isSmall (by omega) e) (fun x6 e6 => ?_)
  refine S_if_ne 14 (dc_X10_lines 5 rfl) rfl (fun c9 => ?_) (fun c9 => ?_)
  · refine S_iconst_ 0 (dc_X10_lines 8 rfl) rfl ?_
    refine S_istore_n (L' := [some (.ref a0), some (.int a1), some (.int 0), none, none]) (dc_X10_lines 9 rfl) rfl ?_
    refine S_iconst_ 0 (dc_X10_lines 10 rfl) rfl ?_
    refine S_istore_n (L' := [some (.ref a0), some (.int a1), some (.int 0), some (.int 0), none]) (dc_X10_lines 11 rfl) rfl ?_
    refine Sx.regKE1 (pc2 := 85) (L2 := fun (x2_85_1 : Int32) => [none, some (.int a1), some (.int x2_85_1), none, none]) (st2 := fun (x2_85_1 : Int32) => []) (h2 := fun (x2_85_1 : Int32) => h2) ?_ (fun Q1 hK1 hE1 => ?_)
    · intro x2_85_1
      show Sx K cX10_lines 85 [none, some (.int a1), some (.int x2_85_1), none, none] [] h2 _ _
      refine S_iload_n (dc_X10_lines 46 rfl) rfl ?_
      refine S_iconst_ (-1) (dc_X10_lines 47 rfl) rfl ?_
      refine S_icmp_ne 94 (dc_X10_lines 48 rfl) rfl (fun c87 => ?_) (fun c87 => ?_)
      · refine S_iconst_ (-1) (dc_X10_lines 51 rfl) rfl ?_
        exact S_iret (dc_X10_lines 52 rfl) hT rfl (e_rqI hr)
      · refine S_iload_n (dc_X10_lines 49 rfl) rfl ?_
        refine S_goto 95 (dc_X10_lines 50 rfl) rfl ?_
        exact S_iret (dc_X10_lines 52 rfl) hT rfl (e_rqI hr)
    · have hK1 : ∀ (x2_85_1 : Int32), Sx K cX10_lines 85 [none, some (.int a1), some (.int x2_85_1), none, none] [] h2 (some (.ok x2_85_1)) Q1 := hK1
      have ih1 : ∀ (n : Nat) (x2_18 : Int32) (x3_18 : Int32), Sx K cX10_lines 18 [some (.ref a0), some (.int a1), some (.int x2_18), some (.int x3_18), none] [] h2 (lp_X10_lines_18 F h2 a0 a1 n x2_18 x3_18) Q1 := by
        intro n
        induction n with
        | zero => intro x2_18 x3_18; exact Sx.none
        | succ n ih1 =>
          intro x2_18 x3_18
          rw [lp_X10_lines_18.eq_2]
          refine S_iload_n (dc_X10_lines 12 rfl) rfl ?_
          refine S_bipush_ 100 (dc_X10_lines 13 rfl) rfl ?_
          refine S_icmp_ge 85 (dc_X10_lines 14 rfl) rfl (fun c21 => ?_) (fun c21 => ?_)
          · refine Sx.cut [false, true, true, false, true] ?_
            exact hK1 x2_18
          · refine S_iload_n (dc_X10_lines 15 rfl) rfl ?_
            refine S_iconst_ 1 (dc_X10_lines 16 rfl) rfl ?_
            refine S_iadd (dc_X10_lines 17 rfl) ?_
            refine Sx.nameI (fun x27 n27 => ?_)
            refine S_istore (L' := [some (.ref a0), some (.int a1), some (.int x2_18), some (.int x3_18), some (.int x27)]) (dc_X10_lines 18 rfl) rfl ?_
            refine Sx.regKE1 (pc2 := 79) (L2 := fun (x2_79_2 : Int32) => [some (.ref a0), some (.int a1), some (.int x2_79_2), some (.int x3_18), none]) (st2 := fun (x2_79_2 : Int32) => []) (h2 := fun (x2_79_2 : Int32) => h2) ?_ (fun Q2 hK2 hE2 => ?_)
            · intro x2_79_2
              show Sx K cX10_lines 79 [some (.ref a0), some (.int a1), some (.int x2_79_2), some (.int x3_18), none] [] h2 _ _
              refine S_iincN 1 (L' := fun x79 => [some (.ref a0), some (.int a1), some (.int x2_79_2), some (.int x79), none]) (dc_X10_lines 44 rfl) rfl rfl (fun _ => rfl) (fun x79 n79 => ?_)
              refine S_goto 18 (dc_X10_lines 45 rfl) rfl ?_
              exact ih1 x2_79_2 x79
            · have hK2 : ∀ (x2_79_2 : Int32), Sx K cX10_lines 79 [some (.ref a0), some (.int a1), some (.int x2_79_2), some (.int x3_18), none] [] h2 (some (.ok x2_79_2)) Q2 := hK2
              have ih2 : ∀ (n : Nat) (x2_29 : Int32) (x4_29 : Int32), Sx K cX10_lines 29 [some (.ref a0), some (.int a1), some (.int x2_29), some (.int x3_18), some (.int x4_29)] [] h2 (lp_X10_lines_29 F h2 a0 a1 x3_18 n x2_29 x4_29) Q2 := by
                intro n
                induction n with
                | zero => intro x2_29 x4_29; exact Sx.none
                | succ n ih2 =>
                  intro x2_29 x4_29
                  rw [lp_X10_lines_29.eq_2]
                  refine S_iload (dc_X10_lines 19 rfl) rfl ?_
                  refine S_bipush_ 100 (dc_X10_lines 20 rfl) rfl ?_
                  refine S_icmp_ge 79 (dc_X10_lines 21 rfl) rfl (fun c33 => ?_) (fun c33 => ?_)
                  · refine Sx.cut [true, true, true, true, false] ?_
                    exact hK2 x2_29
                  · refine S_aload_n (dc_X10_lines 22 rfl) rfl ?_
                    refine S_iload_n (dc_X10_lines 23 rfl) rfl ?_
                    refine S_roI (d := k_d K - 1) (e_callV (b := a0) (As := [.int x3_18]) (rest := []) ok_X10_isAt rfl (Nat.le_of_ble_eq_true rfl) (dc_X10_lines 24 rfl) ho q1783 q1785 (show e_cl[8]? = some (RX10, TX10, 51) from rfl) (e_sel.of qs51) (e_is_of i6) rfl (Nat.le_of_ble_eq_true rfl)) (by omega) (fun _ e => ct_X10_isAt (by omega) e) (fun x38 e38 => ?_)
                    refine Sx.regKE1 (pc2 := 73) (L2 := fun (x2_73_3 : Int32) => [some (.ref a0), some (.int a1), some (.int x2_73_3), some (.int x3_18), some (.int x4_29)]) (st2 := fun (x2_73_3 : Int32) => []) (h2 := fun (x2_73_3 : Int32) => h2) ?_ (fun Q3 hK3 hE3 => ?_)
                    · intro x2_73_3
                      show Sx K cX10_lines 73 [some (.ref a0), some (.int a1), some (.int x2_73_3), some (.int x3_18), some (.int x4_29)] [] h2 _ _
                      refine S_iincN 1 (L' := fun x73 => [some (.ref a0), some (.int a1), some (.int x2_73_3), some (.int x3_18), some (.int x73)]) (dc_X10_lines 42 rfl) rfl rfl (fun _ => rfl) (fun x73 n73 => ?_)
                      refine S_goto 29 (dc_X10_lines 43 rfl) rfl ?_
                      exact ih2 x2_73_3 x73
                    · have hK3 : ∀ (x2_73_3 : Int32), Sx K cX10_lines 73 [some (.ref a0), some (.int a1), some (.int x2_73_3), some (.int x3_18), some (.int x4_29)] [] h2 (some (.ok x2_73_3)) Q3 := hK3
                      refine S_if_eq 73 (dc_X10_lines 25 rfl) rfl (fun c41 => ?_) (fun c41 => ?_)
                      · exact hK3 x2_29
                      · refine S_aload_n (dc_X10_lines 26 rfl) rfl ?_
                        refine S_iload_n (dc_X10_lines 27 rfl) rfl ?_
                        refine S_iload (dc_X10_lines 28 rfl) rfl ?_
                        refine S_roI (d := k_d K - 1) (e_callV (b := a0) (As := [.int x3_18, .int x4_29]) (rest := []) ok_X10_mayLay rfl (Nat.le_of_ble_eq_true rfl) (dc_X10_lines 29 rfl) ho q2079 q2081 (show e_cl[8]? = some (RX10, TX10, 51) from rfl) (e_sel.of qs94) (e_is_of i6) rfl (Nat.le_of_ble_eq_true rfl)) (by omega) (fun _ e => ct_X10_mayLay (by omega) e) (fun x48 e48 => ?_)
                        refine S_if_ne 57 (dc_X10_lines 30 rfl) rfl (fun c51 => ?_) (fun c51 => ?_)
                        · refine S_iload_n (dc_X10_lines 32 rfl) rfl ?_
                          refine S_iload_n (dc_X10_lines 33 rfl) rfl ?_
                          refine S_icmp_ne 70 (dc_X10_lines 34 rfl) rfl (fun c59 => ?_) (fun c59 => ?_)
                          · refine S_iincN 1 (L' := fun x70 => [some (.ref a0), some (.int a1), some (.int x70), some (.int x3_18), some (.int x4_29)]) (dc_X10_lines 41 rfl) rfl rfl (fun _ => rfl) (fun x70 n70 => ?_)
                            exact hK3 x70
                          · refine S_bipush_ 100 (dc_X10_lines 35 rfl) rfl ?_
                            refine S_iload_n (dc_X10_lines 36 rfl) rfl ?_
                            refine S_imul (dc_X10_lines 37 rfl) ?_
                            refine S_iload (dc_X10_lines 38 rfl) rfl ?_
                            refine S_iadd (dc_X10_lines 39 rfl) ?_
                            refine Sx.err hE3 ?_
                            refine Sx.err hE2 ?_
                            refine Sx.err hE1 ?_
                            exact S_iret (dc_X10_lines 40 rfl) hT rfl (e_rqI hr)
                        · refine S_goto 73 (dc_X10_lines 31 rfl) rfl ?_
                          exact hK3 x2_29
              exact ih2 F x2_18 x27
      exact ih1 F 0 0
  · refine S_iconst_ (-1) (dc_X10_lines 6 rfl) rfl ?_
    exact S_iret (dc_X10_lines 7 rfl) hT rfl (e_rqI hr)
abbrev cX10_winning : ByteArray := prog_18_method_126_code
def yX10_winning : MethodName := ⟨"PegBandsModel", "winning", "()I"⟩
def tb_X10_winning : List (Nat × Instr × Nat) := [(0, .iconst 0, 1), (1, .istore_n 1, 1), (2, .iload_n 1, 1), (3, .bipush 100, 2), (5, .if_icmp .ge 88, 3), (8, .iload_n 1, 1), (9, .iconst 1, 1), (10, .iadd, 1), (11, .istore_n 2, 1), (12, .iload_n 2, 1), (13, .bipush 100, 2), (15, .if_icmp .ge 72, 3), (18, .aload_n 0, 1), (19, .iload_n 1, 1), (20, .invokevirtual 282, 3), (23, .ifCond .eq 58, 3), (26, .aload_n 0, 1), (27, .iload_n 1, 1), (28, .iload_n 2, 1), (29, .invokevirtual 438, 3), (32, .ifCond .ne 6, 3), (35, .goto 46, 3), (38, .aload_n 0, 1), (39, .iload_n 1, 1), (40, .iload_n 2, 1), (41, .invokevirtual 441, 3), (44, .aload_n 0, 1), (45, .invokevirtual 444, 3), (48, .iconst (-1), 1), (49, .if_icmp .ne 7, 3), (52, .iconst 1, 1), (53, .goto 4, 3), (56, .iconst 0, 1), (57, .istore_n 3, 1), (58, .aload_n 0, 1), (59, .getfield 13, 3), (62, .sipush 261, 3), (65, .dup2, 1), (66, .iaload, 1), (67, .iconst 1, 1), (68, .isub, 1), (69, .iastore, 1), (70, .iload_n 3, 1), (71, .ifCond .eq 10, 3), (74, .bipush 100, 2), (76, .iload_n 1, 1), (77, .imul, 1), (78, .iload_n 2, 1), (79, .iadd, 1), (80, .ireturn, 1), (81, .iinc 2 1, 3), (84, .goto (-72), 3), (87, .iinc 1 1, 3), (90, .goto (-88), 3), (93, .iconst (-1), 1), (94, .ireturn, 1)]
theorem tk_X10_winning : ∀ q ∈ tb_X10_winning, decode cX10_winning q.1 = .ok q.2 := by decide +kernel
theorem dc_X10_winning (k : Nat) {pc n : Nat} {i : Instr} (h : tb_X10_winning[k]? = some (pc, i, n)) : decode cX10_winning pc = .ok (i, n) := tk_X10_winning (pc, i, n) (List.mem_of_getElem? h)
abbrev mX10_winning : e_M := (yX10_winning, cX10_winning, 4, some (.int), [])
theorem ok_X10_winning : e_mok mX10_winning 0 := ⟨q2102, q119, by decide +kernel, fun sig h => by cases h; rfl⟩
def lp_X10_winning_12 (F : Nat) (S : e_H → Nat → Option (Int32 × e_H)) (a0 : Nat) (x1_2 : Int32) : Nat → Int32 → e_H → Option (Except (Except (Int32 × e_H) e_H) e_H)
  | 0, _, _ => none
  | n + 1, x2_12, h_12 =>
    if 100 ≤ x2_12 then
      some (.ok h_12)
    else
      Option.bind (e_is h_12 a0 8) (fun _ =>
      Option.bind (f_X10_isAt h_12 a0 x1_2) (fun x20 =>
      e_bE (
          if x20 = 0 then
            some (.ok h_12)
          else
            Option.bind (f_X10_mayLay F h_12 a0 x1_2 x2_12) (fun x29 =>
            if x29 = 0 then
              some (.ok h_12)
            else
              Option.bind (f_X10_layLine h_12 a0 x1_2 x2_12) (fun h41 =>
              Option.bind (e_is h41 a0 8) (fun _ =>
              e_b2 (S h41 a0) (fun x45 h45 =>
              Option.bind (
                  if x45 = (-1) then
                    some 1
                  else
                    some 0
                : Option (Int32)) (fun s57_4 =>
              Option.bind (e_fA h45 a0 8 15) (fun x59 =>
              Option.bind (e_aI h45 x59 0 261) (fun x66 =>
              Option.bind (e_wI h45 x59 0 261 (x66 - 1)) (fun h69 =>
              if s57_4 = 0 then
                some (.ok h69)
              else
                some (.error (.error (.error (((100 * x1_2) + x2_12), h69))))))))))))
        : Option (Except (Except (Except (Int32 × e_H) e_H) e_H) e_H)) (fun h81_3 =>
      Option.bind (some (x2_12 + 1)) (fun x81 =>
      lp_X10_winning_12 F S a0 x1_2 n x81 h81_3))))
def lp_X10_winning_2 (F : Nat) (S : e_H → Nat → Option (Int32 × e_H)) (a0 : Nat) : Nat → Int32 → e_H → Option (Except (Int32 × e_H) e_H)
  | 0, _, _ => none
  | n + 1, x1_2, h_2 =>
    if 100 ≤ x1_2 then
      some (.ok h_2)
    else
      Option.bind (some (x1_2 + 1)) (fun x11 =>
      e_bE (
          lp_X10_winning_12 F S a0 x1_2 F x11 h_2
        : Option (Except (Except (Int32 × e_H) e_H) e_H)) (fun h87_2 =>
      Option.bind (some (x1_2 + 1)) (fun x87 =>
      lp_X10_winning_2 F S a0 n x87 h87_2)))
def fb_X10_winning (F : Nat) (S : e_H → Nat → Option (Int32 × e_H)) (h : e_H) (a0 : Nat) : Option (Int32 × e_H) :=
  e_bE (
      lp_X10_winning_2 F S a0 F 0 h
    : Option (Except (Int32 × e_H) e_H)) (fun h93_1 =>
  some ((-1), h93_1))
set_option maxHeartbeats 4000000 in
set_option maxRecDepth 100000 in
theorem cb_X10_winning {l : Launch} {D : e_D} {B : Heap} {F : Nat} {S : e_H → Nat → Option (Int32 × e_H)} {dS : Nat} {d : Nat} {h : e_H} {a0 : Nat} {v : Int32} {h1 : e_H} (hS : ∀ {h : e_H} {a0 : Nat} {v : Int32} {h1 : e_H} , S h a0 = some (v, h1) → e_Run l D B dS mX10_winning [.ref a0] h (.ok (some (.int v)), h1)) (hd : 6 ≤ d) (hd2 : dS + 1 ≤ d) (e : fb_X10_winning F S h a0 = some (v, h1)) : e_Run l D B d mX10_winning [.ref a0] h (.ok (some (.int v)), h1) := by
  refine e_start [some (.ref a0), none, none, none] (by decide) rfl rfl rfl (Nat.le_of_ble_eq_true rfl) (fun K hl0 hD0 hB0 hM hd0 hr => ?_)
  subst hl0 hD0 hB0 hd0
  have ho : (k_M K).1.cls = "PegBandsModel" := by rw [hM]; rfl
  have hT : (k_M K).2.2.2.1 = some (.int) := by rw [hM]
  refine (show Sx K cX10_winning 0 [some (.ref a0), none, none, none] [] h (fb_X10_winning F S h a0) (fun w => w = (v, h1)) from ?_) _ e rfl
  clear e
  unfold fb_X10_winning
  refine S_iconst_ 0 (dc_X10_winning 0 rfl) rfl ?_
  refine S_istore_n (L' := [some (.ref a0), some (.int 0), none, none]) (dc_X10_winning 1 rfl) rfl ?_
  refine Sx.regKE1 (pc2 := 93) (L2 := fun (h93_1 : e_H) => [none, none, none, none]) (st2 := fun (h93_1 : e_H) => []) (h2 := fun (h93_1 : e_H) => h93_1) ?_ (fun Q1 hK1 hE1 => ?_)
  · intro h93_1
    show Sx K cX10_winning 93 [none, none, none, none] [] h93_1 _ _
    refine S_iconst_ (-1) (dc_X10_winning 54 rfl) rfl ?_
    exact S_iret (dc_X10_winning 55 rfl) hT rfl (e_rqI hr)
  · have hK1 : ∀ (h93_1 : e_H), Sx K cX10_winning 93 [none, none, none, none] [] h93_1 (some (.ok h93_1)) Q1 := hK1
    have ih1 : ∀ (n : Nat) (x1_2 : Int32) (h_2 : e_H), Sx K cX10_winning 2 [some (.ref a0), some (.int x1_2), none, none] [] h_2 (lp_X10_winning_2 F S a0 n x1_2 h_2) Q1 := by
      intro n
      induction n with
      | zero => intro x1_2 h_2; exact Sx.none
      | succ n ih1 =>
        intro x1_2 h_2
        rw [lp_X10_winning_2.eq_2]
        refine S_iload_n (dc_X10_winning 2 rfl) rfl ?_
        refine S_bipush_ 100 (dc_X10_winning 3 rfl) rfl ?_
        refine S_icmp_ge 93 (dc_X10_winning 4 rfl) rfl (fun c5 => ?_) (fun c5 => ?_)
        · refine Sx.cut [false, false, true, true] ?_
          exact hK1 h_2
        · refine S_iload_n (dc_X10_winning 5 rfl) rfl ?_
          refine S_iconst_ 1 (dc_X10_winning 6 rfl) rfl ?_
          refine S_iadd (dc_X10_winning 7 rfl) ?_
          refine Sx.nameI (fun x11 n11 => ?_)
          refine S_istore_n (L' := [some (.ref a0), some (.int x1_2), some (.int x11), none]) (dc_X10_winning 8 rfl) rfl ?_
          refine Sx.regKE1 (pc2 := 87) (L2 := fun (h87_2 : e_H) => [some (.ref a0), some (.int x1_2), none, none]) (st2 := fun (h87_2 : e_H) => []) (h2 := fun (h87_2 : e_H) => h87_2) ?_ (fun Q2 hK2 hE2 => ?_)
          · intro h87_2
            show Sx K cX10_winning 87 [some (.ref a0), some (.int x1_2), none, none] [] h87_2 _ _
            refine S_iincN 1 (L' := fun x87 => [some (.ref a0), some (.int x87), none, none]) (dc_X10_winning 52 rfl) rfl rfl (fun _ => rfl) (fun x87 n87 => ?_)
            refine S_goto 2 (dc_X10_winning 53 rfl) rfl ?_
            exact ih1 x87 h87_2
          · have hK2 : ∀ (h87_2 : e_H), Sx K cX10_winning 87 [some (.ref a0), some (.int x1_2), none, none] [] h87_2 (some (.ok h87_2)) Q2 := hK2
            have ih2 : ∀ (n : Nat) (x2_12 : Int32) (h_12 : e_H), Sx K cX10_winning 12 [some (.ref a0), some (.int x1_2), some (.int x2_12), none] [] h_12 (lp_X10_winning_12 F S a0 x1_2 n x2_12 h_12) Q2 := by
              intro n
              induction n with
              | zero => intro x2_12 h_12; exact Sx.none
              | succ n ih2 =>
                intro x2_12 h_12
                rw [lp_X10_winning_12.eq_2]
                refine S_iload_n (dc_X10_winning 9 rfl) rfl ?_
                refine S_bipush_ 100 (dc_X10_winning 10 rfl) rfl ?_
                refine S_icmp_ge 87 (dc_X10_winning 11 rfl) rfl (fun c15 => ?_) (fun c15 => ?_)
                · refine Sx.cut [true, true, false, true] ?_
                  exact hK2 h_12
                · refine S_aload_n (dc_X10_winning 12 rfl) rfl ?_
                  refine S_iload_n (dc_X10_winning 13 rfl) rfl ?_
                  refine Sx.ask (fun _ i20 => ?_)
                  refine S_roI (d := k_d K - 1) (e_callV (b := a0) (As := [.int x1_2]) (rest := []) ok_X10_isAt rfl (Nat.le_of_ble_eq_true rfl) (dc_X10_winning 14 rfl) ho q1783 q1785 (show e_cl[8]? = some (RX10, TX10, 51) from rfl) (e_sel.of qs51) (e_is_of i20) rfl (Nat.le_of_ble_eq_true rfl)) (by omega) (fun _ e => ct_X10_isAt (by omega) e) (fun x20 e20 => ?_)
                  refine Sx.regKE1 (pc2 := 81) (L2 := fun (h81_3 : e_H) => [some (.ref a0), some (.int x1_2), some (.int x2_12), none]) (st2 := fun (h81_3 : e_H) => []) (h2 := fun (h81_3 : e_H) => h81_3) ?_ (fun Q3 hK3 hE3 => ?_)
                  · intro h81_3
                    show Sx K cX10_winning 81 [some (.ref a0), some (.int x1_2), some (.int x2_12), none] [] h81_3 _ _
                    refine S_iincN 1 (L' := fun x81 => [some (.ref a0), some (.int x1_2), some (.int x81), none]) (dc_X10_winning 50 rfl) rfl rfl (fun _ => rfl) (fun x81 n81 => ?_)
                    refine S_goto 12 (dc_X10_winning 51 rfl) rfl ?_
                    exact ih2 x81 h81_3
                  · have hK3 : ∀ (h81_3 : e_H), Sx K cX10_winning 81 [some (.ref a0), some (.int x1_2), some (.int x2_12), none] [] h81_3 (some (.ok h81_3)) Q3 := hK3
                    refine S_if_eq 81 (dc_X10_winning 15 rfl) rfl (fun c23 => ?_) (fun c23 => ?_)
                    · exact hK3 h_12
                    · refine S_aload_n (dc_X10_winning 16 rfl) rfl ?_
                      refine S_iload_n (dc_X10_winning 17 rfl) rfl ?_
                      refine S_iload_n (dc_X10_winning 18 rfl) rfl ?_
                      refine S_roI (d := k_d K - 1) (e_callV (b := a0) (As := [.int x1_2, .int x2_12]) (rest := []) ok_X10_mayLay rfl (Nat.le_of_ble_eq_true rfl) (dc_X10_winning 19 rfl) ho q2079 q2081 (show e_cl[8]? = some (RX10, TX10, 51) from rfl) (e_sel.of qs94) (e_is_of i20) rfl (Nat.le_of_ble_eq_true rfl)) (by omega) (fun _ e => ct_X10_mayLay (by omega) e) (fun x29 e29 => ?_)
                      refine S_if_ne 38 (dc_X10_winning 20 rfl) rfl (fun c32 => ?_) (fun c32 => ?_)
                      · refine S_aload_n (dc_X10_winning 22 rfl) rfl ?_
                        refine S_iload_n (dc_X10_winning 23 rfl) rfl ?_
                        refine S_iload_n (dc_X10_winning 24 rfl) rfl ?_
                        refine S_rwV (d := k_d K - 1) (e_callV (b := a0) (As := [.int x1_2, .int x2_12]) (rest := []) ok_X10_layLine rfl (Nat.le_of_ble_eq_true rfl) (dc_X10_winning 25 rfl) ho q2087 q2089 (show e_cl[8]? = some (RX10, TX10, 51) from rfl) (e_sel.of qs96) (e_is_of i20) rfl (Nat.le_of_ble_eq_true rfl)) (by omega) (fun _ e => ct_X10_layLine (by omega) e) (fun h41 e41 => ?_)
                        refine S_aload_n (dc_X10_winning 26 rfl) rfl ?_
                        refine Sx.ask (fun _ i45 => ?_)
                        refine S_rwI (d := dS) (e_callV (b := a0) (As := []) (rest := []) ok_X10_winning rfl (Nat.le_of_ble_eq_true rfl) (dc_X10_winning 27 rfl) ho q2099 q2101 (show e_cl[8]? = some (RX10, TX10, 51) from rfl) (e_sel.of qs97) (e_is_of i45) rfl (Nat.le_of_ble_eq_true rfl)) (by omega) (fun _ _ e => hS e) (fun x45 h45 e45 => ?_)
                        refine S_iconst_ (-1) (dc_X10_winning 28 rfl) rfl ?_
                        refine Sx.regK1 (pc2 := 57) (L2 := fun (s57_4 : Int32) => [some (.ref a0), some (.int x1_2), some (.int x2_12), none]) (st2 := fun (s57_4 : Int32) => [.int s57_4]) (h2 := fun (s57_4 : Int32) => h45) ?_ (fun Q4 hK4 => ?_)
                        · intro s57_4
                          show Sx K cX10_winning 57 [some (.ref a0), some (.int x1_2), some (.int x2_12), none] [.int s57_4] h45 _ _
                          refine S_istore_n (L' := [some (.ref a0), some (.int x1_2), some (.int x2_12), some (.int s57_4)]) (dc_X10_winning 33 rfl) rfl ?_
                          refine S_aload_n (dc_X10_winning 34 rfl) rfl ?_
                          refine S_getA (dc_X10_winning 35 rfl) ho fl_X10_13_8_15 (fun _ _ => rfl) (fun x59 e59 => ?_)
                          refine S_sipush_ 261 (dc_X10_winning 36 rfl) rfl ?_
                          refine S_dup2 (dc_X10_winning 37 rfl) rfl rfl ?_
                          refine S_iald (dc_X10_winning 38 rfl) (fun x66 e66 => ?_)
                          refine S_iconst_ 1 (dc_X10_winning 39 rfl) rfl ?_
                          refine S_isub (dc_X10_winning 40 rfl) ?_
                          refine S_iast (dc_X10_winning 41 rfl) (fun h69 e69 => ?_)
                          refine S_iload_n (dc_X10_winning 42 rfl) rfl ?_
                          refine S_if_eq 81 (dc_X10_winning 43 rfl) rfl (fun c71 => ?_) (fun c71 => ?_)
                          · refine Sx.cut [true, true, true, false] ?_
                            exact hK3 h69
                          · refine S_bipush_ 100 (dc_X10_winning 44 rfl) rfl ?_
                            refine S_iload_n (dc_X10_winning 45 rfl) rfl ?_
                            refine S_imul (dc_X10_winning 46 rfl) ?_
                            refine S_iload_n (dc_X10_winning 47 rfl) rfl ?_
                            refine S_iadd (dc_X10_winning 48 rfl) ?_
                            refine Sx.err hE3 ?_
                            refine Sx.err hE2 ?_
                            refine Sx.err hE1 ?_
                            exact S_iret (dc_X10_winning 49 rfl) hT rfl (e_rqI hr)
                        · have hK4 : ∀ (s57_4 : Int32), Sx K cX10_winning 57 [some (.ref a0), some (.int x1_2), some (.int x2_12), none] [.int s57_4] h45 (some s57_4) Q4 := hK4
                          refine S_icmp_ne 56 (dc_X10_winning 29 rfl) rfl (fun c49 => ?_) (fun c49 => ?_)
                          · refine S_iconst_ 0 (dc_X10_winning 32 rfl) rfl ?_
                            exact hK4 0
                          · refine S_iconst_ 1 (dc_X10_winning 30 rfl) rfl ?_
                            refine S_goto 57 (dc_X10_winning 31 rfl) rfl ?_
                            exact hK4 1
                      · refine S_goto 81 (dc_X10_winning 21 rfl) rfl ?_
                        exact hK3 h_12
            exact ih2 F x11 h_2
    exact ih1 F 0 h
def f_X10_winning (F : Nat) : Nat → e_H → Nat → Option (Int32 × e_H)
  | 0, _, _ => none
  | n + 1, h, a0 => fb_X10_winning F (f_X10_winning F n) h a0
theorem ct_X10_winning {l : Launch} {D : e_D} {B : Heap} {F : Nat} (n : Nat) : ∀ {d : Nat} {h : e_H} {a0 : Nat} {v : Int32} {h1 : e_H} (hd : 8 * n + 20 ≤ d) (e : f_X10_winning F n h a0 = some (v, h1)), e_Run l D B d mX10_winning [.ref a0] h (.ok (some (.int v)), h1) := by
  induction n with
  | zero => intros; rename_i e; cases e
  | succ n ih => intros; rename_i hd e; exact cb_X10_winning (dS := 8 * n + 20) (fun e => ih (Nat.le_refl _) e) (by omega) (by omega) e
abbrev cX10_wins : ByteArray := prog_18_method_127_code
def yX10_wins : MethodName := ⟨"PegBandsModel", "wins", "()I"⟩
def tb_X10_wins : List (Nat × Instr × Nat) := [(0, .aload_n 0, 1), (1, .iconst 0, 1), (2, .putfield 94, 3), (5, .aload_n 0, 1), (6, .invokevirtual 435, 3), (9, .ifCond .ne 6, 3), (12, .bipush (-2), 2), (14, .ireturn, 1), (15, .aload_n 0, 1), (16, .getfield 13, 3), (19, .sipush 261, 3), (22, .iaload, 1), (23, .istore_n 1, 1), (24, .iconst 0, 1), (25, .istore_n 2, 1), (26, .iload_n 2, 1), (27, .bipush 8, 2), (29, .if_icmp .ge 25, 3), (32, .aload_n 0, 1), (33, .getfield 85, 3), (36, .iload_n 2, 1), (37, .aload_n 0, 1), (38, .getfield 13, 3), (41, .sipush 262, 3), (44, .iload_n 2, 1), (45, .iadd, 1), (46, .iaload, 1), (47, .iastore, 1), (48, .iinc 2 1, 3), (51, .goto (-25), 3), (54, .aload_n 0, 1), (55, .invokevirtual 444, 3), (58, .istore_n 2, 1), (59, .iconst 0, 1), (60, .istore_n 3, 1), (61, .iload_n 3, 1), (62, .bipush 8, 2), (64, .if_icmp .ge 36, 3), (67, .aload_n 0, 1), (68, .getfield 13, 3), (71, .sipush 262, 3), (74, .iload_n 3, 1), (75, .iadd, 1), (76, .iload_n 3, 1), (77, .iconst 2, 1), (78, .iload_n 1, 1), (79, .imul, 1), (80, .if_icmp .ge 12, 3), (83, .aload_n 0, 1), (84, .getfield 85, 3), (87, .iload_n 3, 1), (88, .iaload, 1), (89, .goto 4, 3), (92, .iconst 0, 1), (93, .iastore, 1), (94, .iinc 3 1, 3), (97, .goto (-36), 3), (100, .iload_n 2, 1), (101, .ireturn, 1)]
theorem tk_X10_wins : ∀ q ∈ tb_X10_wins, decode cX10_wins q.1 = .ok q.2 := by decide +kernel
theorem dc_X10_wins (k : Nat) {pc n : Nat} {i : Instr} (h : tb_X10_wins[k]? = some (pc, i, n)) : decode cX10_wins pc = .ok (i, n) := tk_X10_wins (pc, i, n) (List.mem_of_getElem? h)
abbrev mX10_wins : e_M := (yX10_wins, cX10_wins, 4, some (.int), [])
theorem ok_X10_wins : e_mok mX10_wins 0 := ⟨q2098, q119, by decide +kernel, fun sig h => by cases h; rfl⟩
def lp_X10_wins_26 (F : Nat) (a0 : Nat) : Nat → Int32 → e_H → Option (e_H)
  | 0, _, _ => none
  | n + 1, x2_26, h_26 =>
    if 8 ≤ x2_26 then
      some h_26
    else
      Option.bind (e_fA h_26 a0 8 43) (fun x33 =>
      Option.bind (e_fA h_26 a0 8 15) (fun x38 =>
      Option.bind (e_aI h_26 x38 0 (262 + x2_26)) (fun x46 =>
      Option.bind (e_wI h_26 x33 0 x2_26 x46) (fun h47 =>
      Option.bind (some (x2_26 + 1)) (fun x48 =>
      lp_X10_wins_26 F a0 n x48 h47)))))
def lp_X10_wins_61 (F : Nat) (a0 : Nat) (x22 : Int32) : Nat → Int32 → e_H → Option (e_H)
  | 0, _, _ => none
  | n + 1, x3_61, h_61 =>
    if 8 ≤ x3_61 then
      some h_61
    else
      Option.bind (e_fA h_61 a0 8 15) (fun x68 =>
      Option.bind (
          if (2 * x22) ≤ x3_61 then
            some 0
          else
            Option.bind (e_fA h_61 a0 8 43) (fun x84 =>
            Option.bind (e_aI h_61 x84 0 x3_61) (fun x88 =>
            some x88))
        : Option (Int32)) (fun s93_3 =>
      Option.bind (e_wI h_61 x68 0 (262 + x3_61) s93_3) (fun h93 =>
      Option.bind (some (x3_61 + 1)) (fun x94 =>
      lp_X10_wins_61 F a0 x22 n x94 h93))))
def f_X10_wins (F : Nat) (h : e_H) (a0 : Nat) : Option (Int32 × e_H) :=
  Option.bind (e_gI h a0 8 0 0) (fun h2 =>
  Option.bind (e_is h2 a0 8) (fun _ =>
  Option.bind (f_X10_isSmall h2 a0) (fun x6 =>
  if x6 = 0 then
    some ((-2), h2)
  else
    Option.bind (e_fA h2 a0 8 15) (fun x16 =>
    Option.bind (e_aI h2 x16 0 261) (fun x22 =>
    Option.bind (
        lp_X10_wins_26 F a0 F 0 h2
      : Option (e_H)) (fun h54_1 =>
    Option.bind (e_is h54_1 a0 8) (fun _ =>
    e_b2 (f_X10_winning F 32 h54_1 a0) (fun x55 h55 =>
    Option.bind (
        lp_X10_wins_61 F a0 x22 F 0 h55
      : Option (e_H)) (fun h100_2 =>
    some (x55, h100_2))))))))))
set_option maxHeartbeats 4000000 in
set_option maxRecDepth 100000 in
theorem ct_X10_wins {l : Launch} {D : e_D} {B : Heap} {F : Nat} {d : Nat} {h : e_H} {a0 : Nat} {v : Int32} {h1 : e_H} (hd : 277 ≤ d) (e : f_X10_wins F h a0 = some (v, h1)) : e_Run l D B d mX10_wins [.ref a0] h (.ok (some (.int v)), h1) := by
  refine e_start [some (.ref a0), none, none, none] (by decide) rfl rfl rfl (Nat.le_of_ble_eq_true rfl) (fun K hl0 hD0 hB0 hM hd0 hr => ?_)
  subst hl0 hD0 hB0 hd0
  have ho : (k_M K).1.cls = "PegBandsModel" := by rw [hM]; rfl
  have hT : (k_M K).2.2.2.1 = some (.int) := by rw [hM]
  refine (show Sx K cX10_wins 0 [some (.ref a0), none, none, none] [] h (f_X10_wins F h a0) (fun w => w = (v, h1)) from ?_) _ e rfl
  clear e
  unfold f_X10_wins
  refine S_aload_n (dc_X10_wins 0 rfl) rfl ?_
  refine S_iconst_ 0 (dc_X10_wins 1 rfl) rfl ?_
  refine S_putI (dc_X10_wins 2 rfl) ho fl_X10_94_8_0 (fun _ _ => rfl) (Or.inl rfl) rfl rfl (fun h2 e2 => ?_)
  refine S_aload_n (dc_X10_wins 3 rfl) rfl ?_
  refine Sx.ask (fun _ i6 => ?_)
  refine S_roI (d := k_d K - 1) (e_callV (b := a0) (As := []) (rest := []) ok_X10_isSmall rfl (Nat.le_of_ble_eq_true rfl) (dc_X10_wins 4 rfl) ho q2075 q2077 (show e_cl[8]? = some (RX10, TX10, 51) from rfl) (e_sel.of qs93) (e_is_of i6) rfl (Nat.le_of_ble_eq_true rfl)) (by omega) (fun _ e => ct_X10_isSmall (by omega) e) (fun x6 e6 => ?_)
  refine S_if_ne 15 (dc_X10_wins 5 rfl) rfl (fun c9 => ?_) (fun c9 => ?_)
  · refine S_aload_n (dc_X10_wins 8 rfl) rfl ?_
    refine S_getA (dc_X10_wins 9 rfl) ho fl_X10_13_8_15 (fun _ _ => rfl) (fun x16 e16 => ?_)
    refine S_sipush_ 261 (dc_X10_wins 10 rfl) rfl ?_
    refine S_iald (dc_X10_wins 11 rfl) (fun x22 e22 => ?_)
    refine S_istore_n (L' := [some (.ref a0), some (.int x22), none, none]) (dc_X10_wins 12 rfl) rfl ?_
    refine S_iconst_ 0 (dc_X10_wins 13 rfl) rfl ?_
    refine S_istore_n (L' := [some (.ref a0), some (.int x22), some (.int 0), none]) (dc_X10_wins 14 rfl) rfl ?_
    refine Sx.regK1 (pc2 := 54) (L2 := fun (h54_1 : e_H) => [some (.ref a0), some (.int x22), none, none]) (st2 := fun (h54_1 : e_H) => []) (h2 := fun (h54_1 : e_H) => h54_1) ?_ (fun Q1 hK1 => ?_)
    · intro h54_1
      show Sx K cX10_wins 54 [some (.ref a0), some (.int x22), none, none] [] h54_1 _ _
      refine S_aload_n (dc_X10_wins 30 rfl) rfl ?_
      refine Sx.ask (fun _ i55 => ?_)
      refine S_rwI (d := k_d K - 1) (e_callV (b := a0) (As := []) (rest := []) ok_X10_winning rfl (Nat.le_of_ble_eq_true rfl) (dc_X10_wins 31 rfl) ho q2099 q2101 (show e_cl[8]? = some (RX10, TX10, 51) from rfl) (e_sel.of qs97) (e_is_of i55) rfl (Nat.le_of_ble_eq_true rfl)) (by omega) (fun _ _ e => ct_X10_winning 32 (by omega) e) (fun x55 h55 e55 => ?_)
      refine S_istore_n (L' := [some (.ref a0), some (.int x22), some (.int x55), none]) (dc_X10_wins 32 rfl) rfl ?_
      refine S_iconst_ 0 (dc_X10_wins 33 rfl) rfl ?_
      refine S_istore_n (L' := [some (.ref a0), some (.int x22), some (.int x55), some (.int 0)]) (dc_X10_wins 34 rfl) rfl ?_
      refine Sx.regK1 (pc2 := 100) (L2 := fun (h100_2 : e_H) => [none, none, some (.int x55), none]) (st2 := fun (h100_2 : e_H) => []) (h2 := fun (h100_2 : e_H) => h100_2) ?_ (fun Q2 hK2 => ?_)
      · intro h100_2
        show Sx K cX10_wins 100 [none, none, some (.int x55), none] [] h100_2 _ _
        refine S_iload_n (dc_X10_wins 57 rfl) rfl ?_
        exact S_iret (dc_X10_wins 58 rfl) hT rfl (e_rqI hr)
      · have hK2 : ∀ (h100_2 : e_H), Sx K cX10_wins 100 [none, none, some (.int x55), none] [] h100_2 (some h100_2) Q2 := hK2
        have ih2 : ∀ (n : Nat) (x3_61 : Int32) (h_61 : e_H), Sx K cX10_wins 61 [some (.ref a0), some (.int x22), some (.int x55), some (.int x3_61)] [] h_61 (lp_X10_wins_61 F a0 x22 n x3_61 h_61) Q2 := by
          intro n
          induction n with
          | zero => intro x3_61 h_61; exact Sx.none
          | succ n ih2 =>
            intro x3_61 h_61
            rw [lp_X10_wins_61.eq_2]
            refine S_iload_n (dc_X10_wins 35 rfl) rfl ?_
            refine S_bipush_ 8 (dc_X10_wins 36 rfl) rfl ?_
            refine S_icmp_ge 100 (dc_X10_wins 37 rfl) rfl (fun c64 => ?_) (fun c64 => ?_)
            · refine Sx.cut [false, false, true, false] ?_
              exact hK2 h_61
            · refine S_aload_n (dc_X10_wins 38 rfl) rfl ?_
              refine S_getA (dc_X10_wins 39 rfl) ho fl_X10_13_8_15 (fun _ _ => rfl) (fun x68 e68 => ?_)
              refine S_sipush_ 262 (dc_X10_wins 40 rfl) rfl ?_
              refine S_iload_n (dc_X10_wins 41 rfl) rfl ?_
              refine S_iadd (dc_X10_wins 42 rfl) ?_
              refine S_iload_n (dc_X10_wins 43 rfl) rfl ?_
              refine S_iconst_ 2 (dc_X10_wins 44 rfl) rfl ?_
              refine S_iload_n (dc_X10_wins 45 rfl) rfl ?_
              refine S_imul (dc_X10_wins 46 rfl) ?_
              refine Sx.regK1 (pc2 := 93) (L2 := fun (s93_3 : Int32) => [some (.ref a0), some (.int x22), some (.int x55), some (.int x3_61)]) (st2 := fun (s93_3 : Int32) => [.int s93_3, .int (262 + x3_61), .ref x68]) (h2 := fun (s93_3 : Int32) => h_61) ?_ (fun Q3 hK3 => ?_)
              · intro s93_3
                show Sx K cX10_wins 93 [some (.ref a0), some (.int x22), some (.int x55), some (.int x3_61)] [.int s93_3, .int (262 + x3_61), .ref x68] h_61 _ _
                refine S_iast (dc_X10_wins 54 rfl) (fun h93 e93 => ?_)
                refine S_iincN 1 (L' := fun x94 => [some (.ref a0), some (.int x22), some (.int x55), some (.int x94)]) (dc_X10_wins 55 rfl) rfl rfl (fun _ => rfl) (fun x94 n94 => ?_)
                refine S_goto 61 (dc_X10_wins 56 rfl) rfl ?_
                exact ih2 x94 h93
              · have hK3 : ∀ (s93_3 : Int32), Sx K cX10_wins 93 [some (.ref a0), some (.int x22), some (.int x55), some (.int x3_61)] [.int s93_3, .int (262 + x3_61), .ref x68] h_61 (some s93_3) Q3 := hK3
                refine S_icmp_ge 92 (dc_X10_wins 47 rfl) rfl (fun c80 => ?_) (fun c80 => ?_)
                · refine S_iconst_ 0 (dc_X10_wins 53 rfl) rfl ?_
                  exact hK3 0
                · refine S_aload_n (dc_X10_wins 48 rfl) rfl ?_
                  refine S_getA (dc_X10_wins 49 rfl) ho fl_X10_85_8_43 (fun _ _ => rfl) (fun x84 e84 => ?_)
                  refine S_iload_n (dc_X10_wins 50 rfl) rfl ?_
                  refine S_iald (dc_X10_wins 51 rfl) (fun x88 e88 => ?_)
                  refine S_goto 93 (dc_X10_wins 52 rfl) rfl ?_
                  exact hK3 x88
        exact ih2 F 0 h55
    · have hK1 : ∀ (h54_1 : e_H), Sx K cX10_wins 54 [some (.ref a0), some (.int x22), none, none] [] h54_1 (some h54_1) Q1 := hK1
      have ih1 : ∀ (n : Nat) (x2_26 : Int32) (h_26 : e_H), Sx K cX10_wins 26 [some (.ref a0), some (.int x22), some (.int x2_26), none] [] h_26 (lp_X10_wins_26 F a0 n x2_26 h_26) Q1 := by
        intro n
        induction n with
        | zero => intro x2_26 h_26; exact Sx.none
        | succ n ih1 =>
          intro x2_26 h_26
          rw [lp_X10_wins_26.eq_2]
          refine S_iload_n (dc_X10_wins 15 rfl) rfl ?_
          refine S_bipush_ 8 (dc_X10_wins 16 rfl) rfl ?_
          refine S_icmp_ge 54 (dc_X10_wins 17 rfl) rfl (fun c29 => ?_) (fun c29 => ?_)
          · refine Sx.cut [true, true, false, true] ?_
            exact hK1 h_26
          · refine S_aload_n (dc_X10_wins 18 rfl) rfl ?_
            refine S_getA (dc_X10_wins 19 rfl) ho fl_X10_85_8_43 (fun _ _ => rfl) (fun x33 e33 => ?_)
            refine S_iload_n (dc_X10_wins 20 rfl) rfl ?_
            refine S_aload_n (dc_X10_wins 21 rfl) rfl ?_
            refine S_getA (dc_X10_wins 22 rfl) ho fl_X10_13_8_15 (fun _ _ => rfl) (fun x38 e38 => ?_)
            refine S_sipush_ 262 (dc_X10_wins 23 rfl) rfl ?_
            refine S_iload_n (dc_X10_wins 24 rfl) rfl ?_
            refine S_iadd (dc_X10_wins 25 rfl) ?_
            refine S_iald (dc_X10_wins 26 rfl) (fun x46 e46 => ?_)
            refine S_iast (dc_X10_wins 27 rfl) (fun h47 e47 => ?_)
            refine S_iincN 1 (L' := fun x48 => [some (.ref a0), some (.int x22), some (.int x48), none]) (dc_X10_wins 28 rfl) rfl rfl (fun _ => rfl) (fun x48 n48 => ?_)
            refine S_goto 26 (dc_X10_wins 29 rfl) rfl ?_
            exact ih1 x48 h47
      exact ih1 F 0 h2
  · refine S_bipush_ (-2) (dc_X10_wins 6 rfl) rfl ?_
    exact S_iret (dc_X10_wins 7 rfl) hT rfl (e_rqI hr)
abbrev cX10_again : ByteArray := prog_18_method_128_code
def yX10_again : MethodName := ⟨"PegBandsModel", "again", "()I"⟩
def tb_X10_again : List (Nat × Instr × Nat) := [(0, .aload_n 0, 1), (1, .iconst 0, 1), (2, .putfield 94, 3), (5, .aload_n 0, 1), (6, .getfield 13, 3), (9, .sipush 261, 3), (12, .iaload, 1), (13, .istore_n 1, 1), (14, .aload_n 0, 1), (15, .getfield 13, 3), (18, .sipush 261, 3), (21, .iconst 0, 1), (22, .iastore, 1), (23, .iload_n 1, 1), (24, .ireturn, 1)]
theorem tk_X10_again : ∀ q ∈ tb_X10_again, decode cX10_again q.1 = .ok q.2 := by decide +kernel
theorem dc_X10_again (k : Nat) {pc n : Nat} {i : Instr} (h : tb_X10_again[k]? = some (pc, i, n)) : decode cX10_again pc = .ok (i, n) := tk_X10_again (pc, i, n) (List.mem_of_getElem? h)
abbrev mX10_again : e_M := (yX10_again, cX10_again, 2, some (.int), [])
theorem ok_X10_again : e_mok mX10_again 0 := ⟨q2106, q119, by decide +kernel, fun sig h => by cases h; rfl⟩
def f_X10_again (h : e_H) (a0 : Nat) : Option (Int32 × e_H) :=
  Option.bind (e_gI h a0 8 0 0) (fun h2 =>
  Option.bind (e_fA h2 a0 8 15) (fun x6 =>
  Option.bind (e_aI h2 x6 0 261) (fun x12 =>
  Option.bind (e_fA h2 a0 8 15) (fun x15 =>
  Option.bind (e_wI h2 x15 0 261 0) (fun h22 =>
  some (x12, h22))))))
set_option maxHeartbeats 4000000 in
set_option maxRecDepth 100000 in
theorem ct_X10_again {l : Launch} {D : e_D} {B : Heap} {d : Nat} {h : e_H} {a0 : Nat} {v : Int32} {h1 : e_H} (hd : 1 ≤ d) (e : f_X10_again h a0 = some (v, h1)) : e_Run l D B d mX10_again [.ref a0] h (.ok (some (.int v)), h1) := by
  refine e_start [some (.ref a0), none] (by decide) rfl rfl rfl (Nat.le_of_ble_eq_true rfl) (fun K hl0 hD0 hB0 hM hd0 hr => ?_)
  subst hl0 hD0 hB0 hd0
  have ho : (k_M K).1.cls = "PegBandsModel" := by rw [hM]; rfl
  have hT : (k_M K).2.2.2.1 = some (.int) := by rw [hM]
  refine (show Sx K cX10_again 0 [some (.ref a0), none] [] h (f_X10_again h a0) (fun w => w = (v, h1)) from ?_) _ e rfl
  clear e
  unfold f_X10_again
  refine S_aload_n (dc_X10_again 0 rfl) rfl ?_
  refine S_iconst_ 0 (dc_X10_again 1 rfl) rfl ?_
  refine S_putI (dc_X10_again 2 rfl) ho fl_X10_94_8_0 (fun _ _ => rfl) (Or.inl rfl) rfl rfl (fun h2 e2 => ?_)
  refine S_aload_n (dc_X10_again 3 rfl) rfl ?_
  refine S_getA (dc_X10_again 4 rfl) ho fl_X10_13_8_15 (fun _ _ => rfl) (fun x6 e6 => ?_)
  refine S_sipush_ 261 (dc_X10_again 5 rfl) rfl ?_
  refine S_iald (dc_X10_again 6 rfl) (fun x12 e12 => ?_)
  refine S_istore_n (L' := [some (.ref a0), some (.int x12)]) (dc_X10_again 7 rfl) rfl ?_
  refine S_aload_n (dc_X10_again 8 rfl) rfl ?_
  refine S_getA (dc_X10_again 9 rfl) ho fl_X10_13_8_15 (fun _ _ => rfl) (fun x15 e15 => ?_)
  refine S_sipush_ 261 (dc_X10_again 10 rfl) rfl ?_
  refine S_iconst_ 0 (dc_X10_again 11 rfl) rfl ?_
  refine S_iast (dc_X10_again 12 rfl) (fun h22 e22 => ?_)
  refine S_iload_n (dc_X10_again 13 rfl) rfl ?_
  exact S_iret (dc_X10_again 14 rfl) hT rfl (e_rqI hr)
abbrev cX10_readOne : ByteArray := prog_18_method_132_code
def yX10_readOne : MethodName := ⟨"PegBandsModel", "readOne", "()Z"⟩
abbrev mX10_readOne : e_M := (yX10_readOne, cX10_readOne, 4, some (.boolean), [])
theorem ok_X10_readOne : e_mok mX10_readOne 0 := ⟨q2122, q119, by decide +kernel, fun sig h => by cases h; rfl⟩
abbrev cX10_lays : ByteArray := prog_18_method_129_code
def yX10_lays : MethodName := ⟨"PegBandsModel", "lays", "(IIII)I"⟩
def tb_X10_lays : List (Nat × Instr × Nat) := [(0, .iconst 4, 1), (1, .aload_n 0, 1), (2, .getfield 447, 3), (5, .imul, 1), (6, .istore 5, 2), (8, .aload_n 0, 1), (9, .getfield 88, 3), (12, .iload 5, 2), (14, .iload_n 1, 1), (15, .iastore, 1), (16, .aload_n 0, 1), (17, .getfield 88, 3), (20, .iload 5, 2), (22, .iconst 1, 1), (23, .iadd, 1), (24, .iload_n 2, 1), (25, .iastore, 1), (26, .aload_n 0, 1), (27, .getfield 88, 3), (30, .iload 5, 2), (32, .iconst 2, 1), (33, .iadd, 1), (34, .iload_n 3, 1), (35, .iastore, 1), (36, .aload_n 0, 1), (37, .getfield 88, 3), (40, .iload 5, 2), (42, .iconst 3, 1), (43, .iadd, 1), (44, .iload 4, 2), (46, .iastore, 1), (47, .aload_n 0, 1), (48, .dup, 1), (49, .getfield 447, 3), (52, .iconst 1, 1), (53, .iadd, 1), (54, .putfield 447, 3), (57, .aload_n 0, 1), (58, .getfield 447, 3), (61, .iconst 1, 1), (62, .isub, 1), (63, .ireturn, 1)]
theorem tk_X10_lays : ∀ q ∈ tb_X10_lays, decode cX10_lays q.1 = .ok q.2 := by decide +kernel
theorem dc_X10_lays (k : Nat) {pc n : Nat} {i : Instr} (h : tb_X10_lays[k]? = some (pc, i, n)) : decode cX10_lays pc = .ok (i, n) := tk_X10_lays (pc, i, n) (List.mem_of_getElem? h)
abbrev mX10_lays : e_M := (yX10_lays, cX10_lays, 6, some (.int), [])
theorem ok_X10_lays : e_mok mX10_lays 4 := ⟨q2134, q119, by decide +kernel, fun sig h => by cases h; rfl⟩
theorem fl_X10_447_8_46 : e_FL "PegBandsModel" 447 8 46 := ⟨_, rfl, by decide, Or.inl q1517⟩
def f_X10_lays (h : e_H) (a0 : Nat) (a1 : Int32) (a2 : Int32) (a3 : Int32) (a4 : Int32) : Option (Int32 × e_H) :=
  Option.bind (e_fI h a0 8 46) (fun x2 =>
  Option.bind (some (4 * x2)) (fun x6 =>
  Option.bind (e_fA h a0 8 44) (fun x9 =>
  Option.bind (e_wI h x9 0 x6 a1) (fun h15 =>
  Option.bind (e_fA h15 a0 8 44) (fun x17 =>
  Option.bind (e_wI h15 x17 0 (x6 + 1) a2) (fun h25 =>
  Option.bind (e_fA h25 a0 8 44) (fun x27 =>
  Option.bind (e_wI h25 x27 0 (x6 + 2) a3) (fun h35 =>
  Option.bind (e_fA h35 a0 8 44) (fun x37 =>
  Option.bind (e_wI h35 x37 0 (x6 + 3) a4) (fun h46 =>
  Option.bind (e_fI h46 a0 8 46) (fun x49 =>
  Option.bind (e_gI h46 a0 8 46 (x49 + 1)) (fun h54 =>
  Option.bind (e_fI h54 a0 8 46) (fun x58 =>
  some ((x58 - 1), h54))))))))))))))
set_option maxHeartbeats 4000000 in
set_option maxRecDepth 100000 in
theorem ct_X10_lays {l : Launch} {D : e_D} {B : Heap} {d : Nat} {h : e_H} {a0 : Nat} {a1 : Int32} {a2 : Int32} {a3 : Int32} {a4 : Int32} {v : Int32} {h1 : e_H} (hd : 1 ≤ d) (e : f_X10_lays h a0 a1 a2 a3 a4 = some (v, h1)) : e_Run l D B d mX10_lays [.ref a0, .int a1, .int a2, .int a3, .int a4] h (.ok (some (.int v)), h1) := by
  refine e_start [some (.ref a0), some (.int a1), some (.int a2), some (.int a3), some (.int a4), none] (by decide) rfl rfl rfl (Nat.le_of_ble_eq_true rfl) (fun K hl0 hD0 hB0 hM hd0 hr => ?_)
  subst hl0 hD0 hB0 hd0
  have ho : (k_M K).1.cls = "PegBandsModel" := by rw [hM]; rfl
  have hT : (k_M K).2.2.2.1 = some (.int) := by rw [hM]
  refine (show Sx K cX10_lays 0 [some (.ref a0), some (.int a1), some (.int a2), some (.int a3), some (.int a4), none] [] h (f_X10_lays h a0 a1 a2 a3 a4) (fun w => w = (v, h1)) from ?_) _ e rfl
  clear e
  unfold f_X10_lays
  refine S_iconst_ 4 (dc_X10_lays 0 rfl) rfl ?_
  refine S_aload_n (dc_X10_lays 1 rfl) rfl ?_
  refine S_getI (dc_X10_lays 2 rfl) ho fl_X10_447_8_46 (fun _ _ => rfl) (fun x2 e2 => ?_)
  refine S_imul (dc_X10_lays 3 rfl) ?_
  refine Sx.nameI (fun x6 n6 => ?_)
  refine S_istore (L' := [some (.ref a0), some (.int a1), some (.int a2), some (.int a3), some (.int a4), some (.int x6)]) (dc_X10_lays 4 rfl) rfl ?_
  refine S_aload_n (dc_X10_lays 5 rfl) rfl ?_
  refine S_getA (dc_X10_lays 6 rfl) ho fl_X10_88_8_44 (fun _ _ => rfl) (fun x9 e9 => ?_)
  refine S_iload (dc_X10_lays 7 rfl) rfl ?_
  refine S_iload_n (dc_X10_lays 8 rfl) rfl ?_
  refine S_iast (dc_X10_lays 9 rfl) (fun h15 e15 => ?_)
  refine S_aload_n (dc_X10_lays 10 rfl) rfl ?_
  refine S_getA (dc_X10_lays 11 rfl) ho fl_X10_88_8_44 (fun _ _ => rfl) (fun x17 e17 => ?_)
  refine S_iload (dc_X10_lays 12 rfl) rfl ?_
  refine S_iconst_ 1 (dc_X10_lays 13 rfl) rfl ?_
  refine S_iadd (dc_X10_lays 14 rfl) ?_
  refine S_iload_n (dc_X10_lays 15 rfl) rfl ?_
  refine S_iast (dc_X10_lays 16 rfl) (fun h25 e25 => ?_)
  refine S_aload_n (dc_X10_lays 17 rfl) rfl ?_
  refine S_getA (dc_X10_lays 18 rfl) ho fl_X10_88_8_44 (fun _ _ => rfl) (fun x27 e27 => ?_)
  refine S_iload (dc_X10_lays 19 rfl) rfl ?_
  refine S_iconst_ 2 (dc_X10_lays 20 rfl) rfl ?_
  refine S_iadd (dc_X10_lays 21 rfl) ?_
  refine S_iload_n (dc_X10_lays 22 rfl) rfl ?_
  refine S_iast (dc_X10_lays 23 rfl) (fun h35 e35 => ?_)
  refine S_aload_n (dc_X10_lays 24 rfl) rfl ?_
  refine S_getA (dc_X10_lays 25 rfl) ho fl_X10_88_8_44 (fun _ _ => rfl) (fun x37 e37 => ?_)
  refine S_iload (dc_X10_lays 26 rfl) rfl ?_
  refine S_iconst_ 3 (dc_X10_lays 27 rfl) rfl ?_
  refine S_iadd (dc_X10_lays 28 rfl) ?_
  refine S_iload (dc_X10_lays 29 rfl) rfl ?_
  refine S_iast (dc_X10_lays 30 rfl) (fun h46 e46 => ?_)
  refine S_aload_n (dc_X10_lays 31 rfl) rfl ?_
  refine S_dup (dc_X10_lays 32 rfl) rfl ?_
  refine S_getI (dc_X10_lays 33 rfl) ho fl_X10_447_8_46 (fun _ _ => rfl) (fun x49 e49 => ?_)
  refine S_iconst_ 1 (dc_X10_lays 34 rfl) rfl ?_
  refine S_iadd (dc_X10_lays 35 rfl) ?_
  refine S_putI (dc_X10_lays 36 rfl) ho fl_X10_447_8_46 (fun _ _ => rfl) (Or.inl rfl) rfl rfl (fun h54 e54 => ?_)
  refine S_aload_n (dc_X10_lays 37 rfl) rfl ?_
  refine S_getI (dc_X10_lays 38 rfl) ho fl_X10_447_8_46 (fun _ _ => rfl) (fun x58 e58 => ?_)
  refine S_iconst_ 1 (dc_X10_lays 39 rfl) rfl ?_
  refine S_isub (dc_X10_lays 40 rfl) ?_
  exact S_iret (dc_X10_lays 41 rfl) hT rfl (e_rqI hr)
abbrev cX10_readAnd : ByteArray := prog_18_method_131_code
def yX10_readAnd : MethodName := ⟨"PegBandsModel", "readAnd", "()Z"⟩
def tb_X10_readAnd : List (Nat × Instr × Nat) := [(0, .aload_n 0, 1), (1, .invokevirtual 460, 3), (4, .ifCond .ne 5, 3), (7, .iconst 0, 1), (8, .ireturn, 1), (9, .aload_n 0, 1), (10, .getfield 453, 3), (13, .istore_n 1, 1), (14, .aload_n 0, 1), (15, .bipush 7, 2), (17, .invokevirtual 252, 3), (20, .ifCond .eq 31, 3), (23, .aload_n 0, 1), (24, .invokevirtual 179, 3), (27, .aload_n 0, 1), (28, .invokevirtual 460, 3), (31, .ifCond .ne 5, 3), (34, .iconst 0, 1), (35, .ireturn, 1), (36, .aload_n 0, 1), (37, .iconst 2, 1), (38, .iload_n 1, 1), (39, .aload_n 0, 1), (40, .getfield 453, 3), (43, .iconst 0, 1), (44, .invokevirtual 456, 3), (47, .istore_n 1, 1), (48, .goto (-34), 3), (51, .aload_n 0, 1), (52, .iload_n 1, 1), (53, .putfield 453, 3), (56, .iconst 1, 1), (57, .ireturn, 1)]
theorem tk_X10_readAnd : ∀ q ∈ tb_X10_readAnd, decode cX10_readAnd q.1 = .ok q.2 := by decide +kernel
theorem dc_X10_readAnd (k : Nat) {pc n : Nat} {i : Instr} (h : tb_X10_readAnd[k]? = some (pc, i, n)) : decode cX10_readAnd pc = .ok (i, n) := tk_X10_readAnd (pc, i, n) (List.mem_of_getElem? h)
abbrev mX10_readAnd : e_M := (yX10_readAnd, cX10_readAnd, 2, some (.boolean), [])
theorem ok_X10_readAnd : e_mok mX10_readAnd 0 := ⟨q2118, q119, by decide +kernel, fun sig h => by cases h; rfl⟩
theorem fl_X10_453_8_49 : e_FL "PegBandsModel" 453 8 49 := ⟨_, rfl, by decide, Or.inl q1520⟩
def lp_X10_readAnd_14 (F : Nat) (S : e_H → Nat → Option (Int32 × e_H)) (a0 : Nat) : Nat → Int32 → e_H → Option (Except (Int32 × e_H) (Int32 × e_H))
  | 0, _, _ => none
  | n + 1, x1_14, h_14 =>
    Option.bind (e_is h_14 a0 8) (fun _ =>
    Option.bind (f_X10_isWord h_14 a0 7) (fun x17 =>
    if x17 = 0 then
      some (.ok (x1_14, h_14))
    else
      Option.bind (f_X10_go F h_14 a0) (fun h24 =>
      Option.bind (e_is h24 a0 8) (fun _ =>
      e_b2 (S h24 a0) (fun x28 h28 =>
      if x28 = 0 then
        some (.error (0, h28))
      else
        Option.bind (e_fI h28 a0 8 49) (fun x40 =>
        e_b2 (f_X10_lays h28 a0 2 x1_14 x40 0) (fun x44 h44 =>
        lp_X10_readAnd_14 F S a0 n x44 h44)))))))
def f_X10_readAnd (F : Nat) (S : e_H → Nat → Option (Int32 × e_H)) (h : e_H) (a0 : Nat) : Option (Int32 × e_H) :=
  Option.bind (e_is h a0 8) (fun _ =>
  e_b2 (S h a0) (fun x1 h1 =>
  if x1 = 0 then
    some (0, h1)
  else
    Option.bind (e_fI h1 a0 8 49) (fun x10 =>
    e_bE (
        lp_X10_readAnd_14 F S a0 F x10 h1
      : Option (Except (Int32 × e_H) (Int32 × e_H))) (e_u2 (fun x1_51_1 h51_1 =>
    Option.bind (e_gI h51_1 a0 8 49 x1_51_1) (fun h53 =>
    some (1, h53)))))))
set_option maxHeartbeats 4000000 in
set_option maxRecDepth 100000 in
theorem ct_X10_readAnd {l : Launch} {D : e_D} {B : Heap} {F : Nat} {S : e_H → Nat → Option (Int32 × e_H)} {dS : Nat} {d : Nat} {h : e_H} {a0 : Nat} {v : Int32} {h1 : e_H} (hS : ∀ {h : e_H} {a0 : Nat} {v : Int32} {h1 : e_H} , S h a0 = some (v, h1) → e_Run l D B dS mX10_readOne [.ref a0] h (.ok (some (.int v)), h1)) (hd : 4 ≤ d) (hd2 : dS + 2 ≤ d) (e : f_X10_readAnd F S h a0 = some (v, h1)) : e_Run l D B d mX10_readAnd [.ref a0] h (.ok (some (.int v)), h1) := by
  refine e_start [some (.ref a0), none] (by decide) rfl rfl rfl (Nat.le_of_ble_eq_true rfl) (fun K hl0 hD0 hB0 hM hd0 hr => ?_)
  subst hl0 hD0 hB0 hd0
  have ho : (k_M K).1.cls = "PegBandsModel" := by rw [hM]; rfl
  have hT : (k_M K).2.2.2.1 = some (.boolean) := by rw [hM]
  refine (show Sx K cX10_readAnd 0 [some (.ref a0), none] [] h (f_X10_readAnd F S h a0) (fun w => w = (v, h1)) from ?_) _ e rfl
  clear e
  unfold f_X10_readAnd
  refine S_aload_n (dc_X10_readAnd 0 rfl) rfl ?_
  refine Sx.ask (fun _ i1 => ?_)
  refine S_rwI (d := dS) (e_callV (b := a0) (As := []) (rest := []) ok_X10_readOne rfl (Nat.le_of_ble_eq_true rfl) (dc_X10_readAnd 1 rfl) ho q2119 q2121 (show e_cl[8]? = some (RX10, TX10, 51) from rfl) (e_sel.of qs100) (e_is_of i1) rfl (Nat.le_of_ble_eq_true rfl)) (by omega) (fun _ _ e => hS e) (fun x1 h1 e1 => ?_)
  refine S_if_ne 9 (dc_X10_readAnd 2 rfl) rfl (fun c4 => ?_) (fun c4 => ?_)
  · refine S_aload_n (dc_X10_readAnd 5 rfl) rfl ?_
    refine S_getI (dc_X10_readAnd 6 rfl) ho fl_X10_453_8_49 (fun _ _ => rfl) (fun x10 e10 => ?_)
    refine S_istore_n (L' := [some (.ref a0), some (.int x10)]) (dc_X10_readAnd 7 rfl) rfl ?_
    refine Sx.regKE2 (pc2 := 51) (L2 := fun (x1_51_1 : Int32) (h51_1 : e_H) => [some (.ref a0), some (.int x1_51_1)]) (st2 := fun (x1_51_1 : Int32) (h51_1 : e_H) => []) (h2 := fun (x1_51_1 : Int32) (h51_1 : e_H) => h51_1) ?_ (fun Q1 hK1 hE1 => ?_)
    · intro x1_51_1 h51_1
      show Sx K cX10_readAnd 51 [some (.ref a0), some (.int x1_51_1)] [] h51_1 _ _
      refine S_aload_n (dc_X10_readAnd 28 rfl) rfl ?_
      refine S_iload_n (dc_X10_readAnd 29 rfl) rfl ?_
      refine S_putI (dc_X10_readAnd 30 rfl) ho fl_X10_453_8_49 (fun _ _ => rfl) (Or.inl rfl) rfl rfl (fun h53 e53 => ?_)
      refine S_iconst_ 1 (dc_X10_readAnd 31 rfl) rfl ?_
      exact S_iret (dc_X10_readAnd 32 rfl) hT rfl (e_rqI hr)
    · have hK1 : ∀ (x1_51_1 : Int32) (h51_1 : e_H), Sx K cX10_readAnd 51 [some (.ref a0), some (.int x1_51_1)] [] h51_1 (some (.ok (x1_51_1, h51_1))) Q1 := hK1
      have ih1 : ∀ (n : Nat) (x1_14 : Int32) (h_14 : e_H), Sx K cX10_readAnd 14 [some (.ref a0), some (.int x1_14)] [] h_14 (lp_X10_readAnd_14 F S a0 n x1_14 h_14) Q1 := by
        intro n
        induction n with
        | zero => intro x1_14 h_14; exact Sx.none
        | succ n ih1 =>
          intro x1_14 h_14
          rw [lp_X10_readAnd_14.eq_2]
          refine S_aload_n (dc_X10_readAnd 8 rfl) rfl ?_
          refine S_bipush_ 7 (dc_X10_readAnd 9 rfl) rfl ?_
          refine Sx.ask (fun _ i17 => ?_)
          refine S_roI (d := k_d K - 1) (e_callV (b := a0) (As := [.int 7]) (rest := []) ok_X10_isWord rfl (Nat.le_of_ble_eq_true rfl) (dc_X10_readAnd 10 rfl) ho q1674 q1676 (show e_cl[8]? = some (RX10, TX10, 51) from rfl) (e_sel.of qs41) (e_is_of i17) rfl (Nat.le_of_ble_eq_true rfl)) (by omega) (fun _ e => ct_X10_isWord (by omega) e) (fun x17 e17 => ?_)
          refine S_if_eq 51 (dc_X10_readAnd 11 rfl) rfl (fun c20 => ?_) (fun c20 => ?_)
          · exact hK1 x1_14 h_14
          · refine S_aload_n (dc_X10_readAnd 12 rfl) rfl ?_
            refine S_rwV (d := k_d K - 1) (e_callV (b := a0) (As := []) (rest := []) ok_X10_go rfl (Nat.le_of_ble_eq_true rfl) (dc_X10_readAnd 13 rfl) ho q1654 q1656 (show e_cl[8]? = some (RX10, TX10, 51) from rfl) (e_sel.of qs38) (e_is_of i17) rfl (Nat.le_of_ble_eq_true rfl)) (by omega) (fun _ e => ct_X10_go (by omega) e) (fun h24 e24 => ?_)
            refine S_aload_n (dc_X10_readAnd 14 rfl) rfl ?_
            refine Sx.ask (fun _ i28 => ?_)
            refine S_rwI (d := dS) (e_callV (b := a0) (As := []) (rest := []) ok_X10_readOne rfl (Nat.le_of_ble_eq_true rfl) (dc_X10_readAnd 15 rfl) ho q2119 q2121 (show e_cl[8]? = some (RX10, TX10, 51) from rfl) (e_sel.of qs100) (e_is_of i28) rfl (Nat.le_of_ble_eq_true rfl)) (by omega) (fun _ _ e => hS e) (fun x28 h28 e28 => ?_)
            refine S_if_ne 36 (dc_X10_readAnd 16 rfl) rfl (fun c31 => ?_) (fun c31 => ?_)
            · refine S_aload_n (dc_X10_readAnd 19 rfl) rfl ?_
              refine S_iconst_ 2 (dc_X10_readAnd 20 rfl) rfl ?_
              refine S_iload_n (dc_X10_readAnd 21 rfl) rfl ?_
              refine S_aload_n (dc_X10_readAnd 22 rfl) rfl ?_
              refine S_getI (dc_X10_readAnd 23 rfl) ho fl_X10_453_8_49 (fun _ _ => rfl) (fun x40 e40 => ?_)
              refine S_iconst_ 0 (dc_X10_readAnd 24 rfl) rfl ?_
              refine S_rwI (d := k_d K - 1) (e_callV (b := a0) (As := [.int 2, .int x1_14, .int x40, .int 0]) (rest := []) ok_X10_lays rfl (Nat.le_of_ble_eq_true rfl) (dc_X10_readAnd 25 rfl) ho q2131 q2133 (show e_cl[8]? = some (RX10, TX10, 51) from rfl) (e_sel.of qs103) (e_fI_of e40).1 rfl (Nat.le_of_ble_eq_true rfl)) (by omega) (fun _ _ e => ct_X10_lays (by omega) e) (fun x44 h44 e44 => ?_)
              refine S_istore_n (L' := [some (.ref a0), some (.int x44)]) (dc_X10_readAnd 26 rfl) rfl ?_
              refine S_goto 14 (dc_X10_readAnd 27 rfl) rfl ?_
              exact ih1 x44 h44
            · refine S_iconst_ 0 (dc_X10_readAnd 17 rfl) rfl ?_
              refine Sx.err hE1 ?_
              exact S_iret (dc_X10_readAnd 18 rfl) hT rfl (e_rqI hr)
      exact ih1 F x10 h1
  · refine S_iconst_ 0 (dc_X10_readAnd 3 rfl) rfl ?_
    exact S_iret (dc_X10_readAnd 4 rfl) hT rfl (e_rqI hr)
abbrev cX10_readOr : ByteArray := prog_18_method_130_code
def yX10_readOr : MethodName := ⟨"PegBandsModel", "readOr", "()Z"⟩
def tb_X10_readOr : List (Nat × Instr × Nat) := [(0, .aload_n 0, 1), (1, .invokevirtual 450, 3), (4, .ifCond .ne 5, 3), (7, .iconst 0, 1), (8, .ireturn, 1), (9, .aload_n 0, 1), (10, .getfield 453, 3), (13, .istore_n 1, 1), (14, .aload_n 0, 1), (15, .bipush 6, 2), (17, .invokevirtual 252, 3), (20, .ifCond .eq 31, 3), (23, .aload_n 0, 1), (24, .invokevirtual 179, 3), (27, .aload_n 0, 1), (28, .invokevirtual 450, 3), (31, .ifCond .ne 5, 3), (34, .iconst 0, 1), (35, .ireturn, 1), (36, .aload_n 0, 1), (37, .iconst 3, 1), (38, .iload_n 1, 1), (39, .aload_n 0, 1), (40, .getfield 453, 3), (43, .iconst 0, 1), (44, .invokevirtual 456, 3), (47, .istore_n 1, 1), (48, .goto (-34), 3), (51, .aload_n 0, 1), (52, .iload_n 1, 1), (53, .putfield 453, 3), (56, .iconst 1, 1), (57, .ireturn, 1)]
theorem tk_X10_readOr : ∀ q ∈ tb_X10_readOr, decode cX10_readOr q.1 = .ok q.2 := by decide +kernel
theorem dc_X10_readOr (k : Nat) {pc n : Nat} {i : Instr} (h : tb_X10_readOr[k]? = some (pc, i, n)) : decode cX10_readOr pc = .ok (i, n) := tk_X10_readOr (pc, i, n) (List.mem_of_getElem? h)
abbrev mX10_readOr : e_M := (yX10_readOr, cX10_readOr, 2, some (.boolean), [])
theorem ok_X10_readOr : e_mok mX10_readOr 0 := ⟨q2114, q119, by decide +kernel, fun sig h => by cases h; rfl⟩
def lp_X10_readOr_14 (F : Nat) (S : e_H → Nat → Option (Int32 × e_H)) (a0 : Nat) : Nat → Int32 → e_H → Option (Except (Int32 × e_H) (Int32 × e_H))
  | 0, _, _ => none
  | n + 1, x1_14, h_14 =>
    Option.bind (e_is h_14 a0 8) (fun _ =>
    Option.bind (f_X10_isWord h_14 a0 6) (fun x17 =>
    if x17 = 0 then
      some (.ok (x1_14, h_14))
    else
      Option.bind (f_X10_go F h_14 a0) (fun h24 =>
      Option.bind (e_is h24 a0 8) (fun _ =>
      e_b2 (f_X10_readAnd F S h24 a0) (fun x28 h28 =>
      if x28 = 0 then
        some (.error (0, h28))
      else
        Option.bind (e_fI h28 a0 8 49) (fun x40 =>
        e_b2 (f_X10_lays h28 a0 3 x1_14 x40 0) (fun x44 h44 =>
        lp_X10_readOr_14 F S a0 n x44 h44)))))))
def f_X10_readOr (F : Nat) (S : e_H → Nat → Option (Int32 × e_H)) (h : e_H) (a0 : Nat) : Option (Int32 × e_H) :=
  Option.bind (e_is h a0 8) (fun _ =>
  e_b2 (f_X10_readAnd F S h a0) (fun x1 h1 =>
  if x1 = 0 then
    some (0, h1)
  else
    Option.bind (e_fI h1 a0 8 49) (fun x10 =>
    e_bE (
        lp_X10_readOr_14 F S a0 F x10 h1
      : Option (Except (Int32 × e_H) (Int32 × e_H))) (e_u2 (fun x1_51_1 h51_1 =>
    Option.bind (e_gI h51_1 a0 8 49 x1_51_1) (fun h53 =>
    some (1, h53)))))))
set_option maxHeartbeats 4000000 in
set_option maxRecDepth 100000 in
theorem ct_X10_readOr {l : Launch} {D : e_D} {B : Heap} {F : Nat} {S : e_H → Nat → Option (Int32 × e_H)} {dS : Nat} {d : Nat} {h : e_H} {a0 : Nat} {v : Int32} {h1 : e_H} (hS : ∀ {h : e_H} {a0 : Nat} {v : Int32} {h1 : e_H} , S h a0 = some (v, h1) → e_Run l D B dS mX10_readOne [.ref a0] h (.ok (some (.int v)), h1)) (hd : 5 ≤ d) (hd2 : dS + 3 ≤ d) (e : f_X10_readOr F S h a0 = some (v, h1)) : e_Run l D B d mX10_readOr [.ref a0] h (.ok (some (.int v)), h1) := by
  refine e_start [some (.ref a0), none] (by decide) rfl rfl rfl (Nat.le_of_ble_eq_true rfl) (fun K hl0 hD0 hB0 hM hd0 hr => ?_)
  subst hl0 hD0 hB0 hd0
  have ho : (k_M K).1.cls = "PegBandsModel" := by rw [hM]; rfl
  have hT : (k_M K).2.2.2.1 = some (.boolean) := by rw [hM]
  refine (show Sx K cX10_readOr 0 [some (.ref a0), none] [] h (f_X10_readOr F S h a0) (fun w => w = (v, h1)) from ?_) _ e rfl
  clear e
  unfold f_X10_readOr
  refine S_aload_n (dc_X10_readOr 0 rfl) rfl ?_
  refine Sx.ask (fun _ i1 => ?_)
  refine S_rwI (d := k_d K - 1) (e_callV (b := a0) (As := []) (rest := []) ok_X10_readAnd rfl (Nat.le_of_ble_eq_true rfl) (dc_X10_readOr 1 rfl) ho q2115 q2117 (show e_cl[8]? = some (RX10, TX10, 51) from rfl) (e_sel.of qs99) (e_is_of i1) rfl (Nat.le_of_ble_eq_true rfl)) (by omega) (fun _ _ e => ct_X10_readAnd (dS := dS) (hS := hS) (by omega) (by omega) e) (fun x1 h1 e1 => ?_)
  refine S_if_ne 9 (dc_X10_readOr 2 rfl) rfl (fun c4 => ?_) (fun c4 => ?_)
  · refine S_aload_n (dc_X10_readOr 5 rfl) rfl ?_
    refine S_getI (dc_X10_readOr 6 rfl) ho fl_X10_453_8_49 (fun _ _ => rfl) (fun x10 e10 => ?_)
    refine S_istore_n (L' := [some (.ref a0), some (.int x10)]) (dc_X10_readOr 7 rfl) rfl ?_
    refine Sx.regKE2 (pc2 := 51) (L2 := fun (x1_51_1 : Int32) (h51_1 : e_H) => [some (.ref a0), some (.int x1_51_1)]) (st2 := fun (x1_51_1 : Int32) (h51_1 : e_H) => []) (h2 := fun (x1_51_1 : Int32) (h51_1 : e_H) => h51_1) ?_ (fun Q1 hK1 hE1 => ?_)
    · intro x1_51_1 h51_1
      show Sx K cX10_readOr 51 [some (.ref a0), some (.int x1_51_1)] [] h51_1 _ _
      refine S_aload_n (dc_X10_readOr 28 rfl) rfl ?_
      refine S_iload_n (dc_X10_readOr 29 rfl) rfl ?_
      refine S_putI (dc_X10_readOr 30 rfl) ho fl_X10_453_8_49 (fun _ _ => rfl) (Or.inl rfl) rfl rfl (fun h53 e53 => ?_)
      refine S_iconst_ 1 (dc_X10_readOr 31 rfl) rfl ?_
      exact S_iret (dc_X10_readOr 32 rfl) hT rfl (e_rqI hr)
    · have hK1 : ∀ (x1_51_1 : Int32) (h51_1 : e_H), Sx K cX10_readOr 51 [some (.ref a0), some (.int x1_51_1)] [] h51_1 (some (.ok (x1_51_1, h51_1))) Q1 := hK1
      have ih1 : ∀ (n : Nat) (x1_14 : Int32) (h_14 : e_H), Sx K cX10_readOr 14 [some (.ref a0), some (.int x1_14)] [] h_14 (lp_X10_readOr_14 F S a0 n x1_14 h_14) Q1 := by
        intro n
        induction n with
        | zero => intro x1_14 h_14; exact Sx.none
        | succ n ih1 =>
          intro x1_14 h_14
          rw [lp_X10_readOr_14.eq_2]
          refine S_aload_n (dc_X10_readOr 8 rfl) rfl ?_
          refine S_bipush_ 6 (dc_X10_readOr 9 rfl) rfl ?_
          refine Sx.ask (fun _ i17 => ?_)
          refine S_roI (d := k_d K - 1) (e_callV (b := a0) (As := [.int 6]) (rest := []) ok_X10_isWord rfl (Nat.le_of_ble_eq_true rfl) (dc_X10_readOr 10 rfl) ho q1674 q1676 (show e_cl[8]? = some (RX10, TX10, 51) from rfl) (e_sel.of qs41) (e_is_of i17) rfl (Nat.le_of_ble_eq_true rfl)) (by omega) (fun _ e => ct_X10_isWord (by omega) e) (fun x17 e17 => ?_)
          refine S_if_eq 51 (dc_X10_readOr 11 rfl) rfl (fun c20 => ?_) (fun c20 => ?_)
          · exact hK1 x1_14 h_14
          · refine S_aload_n (dc_X10_readOr 12 rfl) rfl ?_
            refine S_rwV (d := k_d K - 1) (e_callV (b := a0) (As := []) (rest := []) ok_X10_go rfl (Nat.le_of_ble_eq_true rfl) (dc_X10_readOr 13 rfl) ho q1654 q1656 (show e_cl[8]? = some (RX10, TX10, 51) from rfl) (e_sel.of qs38) (e_is_of i17) rfl (Nat.le_of_ble_eq_true rfl)) (by omega) (fun _ e => ct_X10_go (by omega) e) (fun h24 e24 => ?_)
            refine S_aload_n (dc_X10_readOr 14 rfl) rfl ?_
            refine Sx.ask (fun _ i28 => ?_)
            refine S_rwI (d := k_d K - 1) (e_callV (b := a0) (As := []) (rest := []) ok_X10_readAnd rfl (Nat.le_of_ble_eq_true rfl) (dc_X10_readOr 15 rfl) ho q2115 q2117 (show e_cl[8]? = some (RX10, TX10, 51) from rfl) (e_sel.of qs99) (e_is_of i28) rfl (Nat.le_of_ble_eq_true rfl)) (by omega) (fun _ _ e => ct_X10_readAnd (dS := dS) (hS := hS) (by omega) (by omega) e) (fun x28 h28 e28 => ?_)
            refine S_if_ne 36 (dc_X10_readOr 16 rfl) rfl (fun c31 => ?_) (fun c31 => ?_)
            · refine S_aload_n (dc_X10_readOr 19 rfl) rfl ?_
              refine S_iconst_ 3 (dc_X10_readOr 20 rfl) rfl ?_
              refine S_iload_n (dc_X10_readOr 21 rfl) rfl ?_
              refine S_aload_n (dc_X10_readOr 22 rfl) rfl ?_
              refine S_getI (dc_X10_readOr 23 rfl) ho fl_X10_453_8_49 (fun _ _ => rfl) (fun x40 e40 => ?_)
              refine S_iconst_ 0 (dc_X10_readOr 24 rfl) rfl ?_
              refine S_rwI (d := k_d K - 1) (e_callV (b := a0) (As := [.int 3, .int x1_14, .int x40, .int 0]) (rest := []) ok_X10_lays rfl (Nat.le_of_ble_eq_true rfl) (dc_X10_readOr 25 rfl) ho q2131 q2133 (show e_cl[8]? = some (RX10, TX10, 51) from rfl) (e_sel.of qs103) (e_fI_of e40).1 rfl (Nat.le_of_ble_eq_true rfl)) (by omega) (fun _ _ e => ct_X10_lays (by omega) e) (fun x44 h44 e44 => ?_)
              refine S_istore_n (L' := [some (.ref a0), some (.int x44)]) (dc_X10_readOr 26 rfl) rfl ?_
              refine S_goto 14 (dc_X10_readOr 27 rfl) rfl ?_
              exact ih1 x44 h44
            · refine S_iconst_ 0 (dc_X10_readOr 17 rfl) rfl ?_
              refine Sx.err hE1 ?_
              exact S_iret (dc_X10_readOr 18 rfl) hT rfl (e_rqI hr)
      exact ih1 F x10 h1
  · refine S_iconst_ 0 (dc_X10_readOr 3 rfl) rfl ?_
    exact S_iret (dc_X10_readOr 4 rfl) hT rfl (e_rqI hr)
abbrev cX10_readBracket : ByteArray := prog_18_method_134_code
def yX10_readBracket : MethodName := ⟨"PegBandsModel", "readBracket", "()Z"⟩
def tb_X10_readBracket : List (Nat × Instr × Nat) := [(0, .aload_n 0, 1), (1, .invokevirtual 480, 3), (4, .ifCond .ne 5, 3), (7, .iconst 0, 1), (8, .ireturn, 1), (9, .aload_n 0, 1), (10, .bipush 41, 2), (12, .invokevirtual 182, 3), (15, .ifCond .ne 9, 3), (18, .aload_n 0, 1), (19, .iconst 1, 1), (20, .invokevirtual 165, 3), (23, .ireturn, 1), (24, .aload_n 0, 1), (25, .invokevirtual 179, 3), (28, .iconst 1, 1), (29, .ireturn, 1)]
theorem tk_X10_readBracket : ∀ q ∈ tb_X10_readBracket, decode cX10_readBracket q.1 = .ok q.2 := by decide +kernel
theorem dc_X10_readBracket (k : Nat) {pc n : Nat} {i : Instr} (h : tb_X10_readBracket[k]? = some (pc, i, n)) : decode cX10_readBracket pc = .ok (i, n) := tk_X10_readBracket (pc, i, n) (List.mem_of_getElem? h)
abbrev mX10_readBracket : e_M := (yX10_readBracket, cX10_readBracket, 1, some (.boolean), [])
theorem ok_X10_readBracket : e_mok mX10_readBracket 0 := ⟨q2126, q119, by decide +kernel, fun sig h => by cases h; rfl⟩
def f_X10_readBracket (F : Nat) (S : e_H → Nat → Option (Int32 × e_H)) (h : e_H) (a0 : Nat) : Option (Int32 × e_H) :=
  Option.bind (e_is h a0 8) (fun _ =>
  e_b2 (f_X10_readOr F S h a0) (fun x1 h1 =>
  if x1 = 0 then
    some (0, h1)
  else
    Option.bind (e_is h1 a0 8) (fun _ =>
    Option.bind (f_X10_isSign h1 a0 41) (fun x12 =>
    if x12 = 0 then
      e_b2 (f_X10_bad h1 a0 1) (fun x20 h20 =>
      if x20 = 0 ∨ x20 = 1 then some (x20, h20) else none)
    else
      Option.bind (f_X10_go F h1 a0) (fun h25 =>
      some (1, h25))))))
set_option maxHeartbeats 4000000 in
set_option maxRecDepth 100000 in
theorem ct_X10_readBracket {l : Launch} {D : e_D} {B : Heap} {F : Nat} {S : e_H → Nat → Option (Int32 × e_H)} {dS : Nat} {d : Nat} {h : e_H} {a0 : Nat} {v : Int32} {h1 : e_H} (hS : ∀ {h : e_H} {a0 : Nat} {v : Int32} {h1 : e_H} , S h a0 = some (v, h1) → e_Run l D B dS mX10_readOne [.ref a0] h (.ok (some (.int v)), h1)) (hd : 6 ≤ d) (hd2 : dS + 5 ≤ d) (e : f_X10_readBracket F S h a0 = some (v, h1)) : e_Run l D B d mX10_readBracket [.ref a0] h (.ok (some (.int v)), h1) := by
  refine e_start [some (.ref a0)] (by decide) rfl rfl rfl (Nat.le_of_ble_eq_true rfl) (fun K hl0 hD0 hB0 hM hd0 hr => ?_)
  subst hl0 hD0 hB0 hd0
  have ho : (k_M K).1.cls = "PegBandsModel" := by rw [hM]; rfl
  have hT : (k_M K).2.2.2.1 = some (.boolean) := by rw [hM]
  refine (show Sx K cX10_readBracket 0 [some (.ref a0)] [] h (f_X10_readBracket F S h a0) (fun w => w = (v, h1)) from ?_) _ e rfl
  clear e
  unfold f_X10_readBracket
  refine S_aload_n (dc_X10_readBracket 0 rfl) rfl ?_
  refine Sx.ask (fun _ i1 => ?_)
  refine S_rwI (d := k_d K - 1) (e_callV (b := a0) (As := []) (rest := []) ok_X10_readOr rfl (Nat.le_of_ble_eq_true rfl) (dc_X10_readBracket 1 rfl) ho q2111 q2113 (show e_cl[8]? = some (RX10, TX10, 51) from rfl) (e_sel.of qs98) (e_is_of i1) rfl (Nat.le_of_ble_eq_true rfl)) (by omega) (fun _ _ e => ct_X10_readOr (dS := dS) (hS := hS) (by omega) (by omega) e) (fun x1 h1 e1 => ?_)
  refine S_if_ne 9 (dc_X10_readBracket 2 rfl) rfl (fun c4 => ?_) (fun c4 => ?_)
  · refine S_aload_n (dc_X10_readBracket 5 rfl) rfl ?_
    refine S_bipush_ 41 (dc_X10_readBracket 6 rfl) rfl ?_
    refine Sx.ask (fun _ i12 => ?_)
    refine S_roI (d := k_d K - 1) (e_callV (b := a0) (As := [.int 41]) (rest := []) ok_X10_isSign rfl (Nat.le_of_ble_eq_true rfl) (dc_X10_readBracket 7 rfl) ho q1706 q1708 (show e_cl[8]? = some (RX10, TX10, 51) from rfl) (e_sel.of qs46) (e_is_of i12) rfl (Nat.le_of_ble_eq_true rfl)) (by omega) (fun _ e => ct_X10_isSign (by omega) e) (fun x12 e12 => ?_)
    refine S_if_ne 24 (dc_X10_readBracket 8 rfl) rfl (fun c15 => ?_) (fun c15 => ?_)
    · refine S_aload_n (dc_X10_readBracket 13 rfl) rfl ?_
      refine S_rwV (d := k_d K - 1) (e_callV (b := a0) (As := []) (rest := []) ok_X10_go rfl (Nat.le_of_ble_eq_true rfl) (dc_X10_readBracket 14 rfl) ho q1654 q1656 (show e_cl[8]? = some (RX10, TX10, 51) from rfl) (e_sel.of qs38) (e_is_of i12) rfl (Nat.le_of_ble_eq_true rfl)) (by omega) (fun _ e => ct_X10_go (by omega) e) (fun h25 e25 => ?_)
      refine S_iconst_ 1 (dc_X10_readBracket 15 rfl) rfl ?_
      exact S_iret (dc_X10_readBracket 16 rfl) hT rfl (e_rqI hr)
    · refine S_aload_n (dc_X10_readBracket 9 rfl) rfl ?_
      refine S_iconst_ 1 (dc_X10_readBracket 10 rfl) rfl ?_
      refine S_rwI (d := k_d K - 1) (e_callV (b := a0) (As := [.int 1]) (rest := []) ok_X10_bad rfl (Nat.le_of_ble_eq_true rfl) (dc_X10_readBracket 11 rfl) ho q1687 q1689 (show e_cl[8]? = some (RX10, TX10, 51) from rfl) (e_sel.of qs42) (e_is_of i12) rfl (Nat.le_of_ble_eq_true rfl)) (by omega) (fun _ _ e => ct_X10_bad (by omega) e) (fun x20 h20 e20 => ?_)
      refine Sx.cond (fun c23 => ?_)
      exact S_iret (dc_X10_readBracket 12 rfl) hT (e_narZ c23).1 (e_rqI hr)
  · refine S_iconst_ 0 (dc_X10_readBracket 3 rfl) rfl ?_
    exact S_iret (dc_X10_readBracket 4 rfl) hT rfl (e_rqI hr)
abbrev cX10_readNot : ByteArray := prog_18_method_133_code
def yX10_readNot : MethodName := ⟨"PegBandsModel", "readNot", "()Z"⟩
def tb_X10_readNot : List (Nat × Instr × Nat) := [(0, .aload_n 0, 1), (1, .invokevirtual 460, 3), (4, .ifCond .ne 5, 3), (7, .iconst 0, 1), (8, .ireturn, 1), (9, .aload_n 0, 1), (10, .aload_n 0, 1), (11, .iconst 1, 1), (12, .aload_n 0, 1), (13, .getfield 453, 3), (16, .iconst 0, 1), (17, .iconst 0, 1), (18, .invokevirtual 456, 3), (21, .putfield 453, 3), (24, .iconst 1, 1), (25, .ireturn, 1)]
theorem tk_X10_readNot : ∀ q ∈ tb_X10_readNot, decode cX10_readNot q.1 = .ok q.2 := by decide +kernel
theorem dc_X10_readNot (k : Nat) {pc n : Nat} {i : Instr} (h : tb_X10_readNot[k]? = some (pc, i, n)) : decode cX10_readNot pc = .ok (i, n) := tk_X10_readNot (pc, i, n) (List.mem_of_getElem? h)
abbrev mX10_readNot : e_M := (yX10_readNot, cX10_readNot, 1, some (.boolean), [])
theorem ok_X10_readNot : e_mok mX10_readNot 0 := ⟨q2130, q119, by decide +kernel, fun sig h => by cases h; rfl⟩
def f_X10_readNot (F : Nat) (S : e_H → Nat → Option (Int32 × e_H)) (h : e_H) (a0 : Nat) : Option (Int32 × e_H) :=
  Option.bind (e_is h a0 8) (fun _ =>
  e_b2 (S h a0) (fun x1 h1 =>
  if x1 = 0 then
    some (0, h1)
  else
    Option.bind (e_fI h1 a0 8 49) (fun x13 =>
    e_b2 (f_X10_lays h1 a0 1 x13 0 0) (fun x18 h18 =>
    Option.bind (e_gI h18 a0 8 49 x18) (fun h21 =>
    some (1, h21))))))
set_option maxHeartbeats 4000000 in
set_option maxRecDepth 100000 in
theorem ct_X10_readNot {l : Launch} {D : e_D} {B : Heap} {F : Nat} {S : e_H → Nat → Option (Int32 × e_H)} {dS : Nat} {d : Nat} {h : e_H} {a0 : Nat} {v : Int32} {h1 : e_H} (hS : ∀ {h : e_H} {a0 : Nat} {v : Int32} {h1 : e_H} , S h a0 = some (v, h1) → e_Run l D B dS mX10_readOne [.ref a0] h (.ok (some (.int v)), h1)) (hd : 2 ≤ d) (hd2 : dS + 2 ≤ d) (e : f_X10_readNot F S h a0 = some (v, h1)) : e_Run l D B d mX10_readNot [.ref a0] h (.ok (some (.int v)), h1) := by
  refine e_start [some (.ref a0)] (by decide) rfl rfl rfl (Nat.le_of_ble_eq_true rfl) (fun K hl0 hD0 hB0 hM hd0 hr => ?_)
  subst hl0 hD0 hB0 hd0
  have ho : (k_M K).1.cls = "PegBandsModel" := by rw [hM]; rfl
  have hT : (k_M K).2.2.2.1 = some (.boolean) := by rw [hM]
  refine (show Sx K cX10_readNot 0 [some (.ref a0)] [] h (f_X10_readNot F S h a0) (fun w => w = (v, h1)) from ?_) _ e rfl
  clear e
  unfold f_X10_readNot
  refine S_aload_n (dc_X10_readNot 0 rfl) rfl ?_
  refine Sx.ask (fun _ i1 => ?_)
  refine S_rwI (d := dS) (e_callV (b := a0) (As := []) (rest := []) ok_X10_readOne rfl (Nat.le_of_ble_eq_true rfl) (dc_X10_readNot 1 rfl) ho q2119 q2121 (show e_cl[8]? = some (RX10, TX10, 51) from rfl) (e_sel.of qs100) (e_is_of i1) rfl (Nat.le_of_ble_eq_true rfl)) (by omega) (fun _ _ e => hS e) (fun x1 h1 e1 => ?_)
  refine S_if_ne 9 (dc_X10_readNot 2 rfl) rfl (fun c4 => ?_) (fun c4 => ?_)
  · refine S_aload_n (dc_X10_readNot 5 rfl) rfl ?_
    refine S_aload_n (dc_X10_readNot 6 rfl) rfl ?_
    refine S_iconst_ 1 (dc_X10_readNot 7 rfl) rfl ?_
    refine S_aload_n (dc_X10_readNot 8 rfl) rfl ?_
    refine S_getI (dc_X10_readNot 9 rfl) ho fl_X10_453_8_49 (fun _ _ => rfl) (fun x13 e13 => ?_)
    refine S_iconst_ 0 (dc_X10_readNot 10 rfl) rfl ?_
    refine S_iconst_ 0 (dc_X10_readNot 11 rfl) rfl ?_
    refine S_rwI (d := k_d K - 1) (e_callV (b := a0) (As := [.int 1, .int x13, .int 0, .int 0]) (rest := [.ref a0]) ok_X10_lays rfl (Nat.le_of_ble_eq_true rfl) (dc_X10_readNot 12 rfl) ho q2131 q2133 (show e_cl[8]? = some (RX10, TX10, 51) from rfl) (e_sel.of qs103) (e_fI_of e13).1 rfl (Nat.le_of_ble_eq_true rfl)) (by omega) (fun _ _ e => ct_X10_lays (by omega) e) (fun x18 h18 e18 => ?_)
    refine S_putI (dc_X10_readNot 13 rfl) ho fl_X10_453_8_49 (fun _ _ => rfl) (Or.inl rfl) rfl rfl (fun h21 e21 => ?_)
    refine S_iconst_ 1 (dc_X10_readNot 14 rfl) rfl ?_
    exact S_iret (dc_X10_readNot 15 rfl) hT rfl (e_rqI hr)
  · refine S_iconst_ 0 (dc_X10_readNot 3 rfl) rfl ?_
    exact S_iret (dc_X10_readNot 4 rfl) hT rfl (e_rqI hr)
abbrev cX10_readNamed : ByteArray := prog_18_method_135_code
def yX10_readNamed : MethodName := ⟨"PegBandsModel", "readNamed", "(I)Z"⟩
def tb_X10_readNamed : List (Nat × Instr × Nat) := [(0, .aload_n 0, 1), (1, .invokevirtual 238, 3), (4, .ifCond .ne 9, 3), (7, .aload_n 0, 1), (8, .iconst 1, 1), (9, .invokevirtual 165, 3), (12, .ireturn, 1), (13, .aload_n 0, 1), (14, .getfield 28, 3), (17, .aload_n 0, 1), (18, .invokevirtual 276, 3), (21, .aload_n 0, 1), (22, .getfield 133, 3), (25, .invokestatic 242, 3), (28, .iconst (-1), 1), (29, .if_icmp .ne 9, 3), (32, .aload_n 0, 1), (33, .iconst 3, 1), (34, .invokevirtual 165, 3), (37, .ireturn, 1), (38, .aload_n 0, 1), (39, .getfield 91, 3), (42, .aload_n 0, 1), (43, .getfield 483, 3), (46, .aload_n 0, 1), (47, .getfield 133, 3), (50, .lastore, 1), (51, .aload_n 0, 1), (52, .aload_n 0, 1), (53, .bipush 50, 2), (55, .iload_n 1, 1), (56, .iadd, 1), (57, .aload_n 0, 1), (58, .getfield 483, 3), (61, .iconst 0, 1), (62, .iconst 0, 1), (63, .invokevirtual 456, 3), (66, .putfield 453, 3), (69, .aload_n 0, 1), (70, .dup, 1), (71, .getfield 483, 3), (74, .iconst 1, 1), (75, .iadd, 1), (76, .putfield 483, 3), (79, .aload_n 0, 1), (80, .invokevirtual 179, 3), (83, .iconst 1, 1), (84, .ireturn, 1)]
theorem tk_X10_readNamed : ∀ q ∈ tb_X10_readNamed, decode cX10_readNamed q.1 = .ok q.2 := by decide +kernel
theorem dc_X10_readNamed (k : Nat) {pc n : Nat} {i : Instr} (h : tb_X10_readNamed[k]? = some (pc, i, n)) : decode cX10_readNamed pc = .ok (i, n) := tk_X10_readNamed (pc, i, n) (List.mem_of_getElem? h)
abbrev mX10_readNamed : e_M := (yX10_readNamed, cX10_readNamed, 2, some (.boolean), [])
theorem ok_X10_readNamed : e_mok mX10_readNamed 1 := ⟨q2138, q119, by decide +kernel, fun sig h => by cases h; rfl⟩
theorem fl_X10_483_8_50 : e_FL "PegBandsModel" 483 8 50 := ⟨_, rfl, by decide, Or.inl q1521⟩
def f_X10_readNamed (F : Nat) (h : e_H) (a0 : Nat) (a1 : Int32) : Option (Int32 × e_H) :=
  Option.bind (e_is h a0 8) (fun _ =>
  Option.bind (f_X10_isName F h a0) (fun x1 =>
  if x1 = 0 then
    e_b2 (f_X10_bad h a0 1) (fun x9 h9 =>
    if x9 = 0 ∨ x9 = 1 then some (x9, h9) else none)
  else
    Option.bind (e_fA h a0 8 20) (fun x14 =>
    Option.bind (f_X10_bands h a0) (fun x18 =>
    Option.bind (e_fJ h a0 8 13) (fun x22 =>
    Option.bind (f_X10_findIn F h x14 x18 x22) (fun x25 =>
    if x25 = (-1) then
      e_b2 (f_X10_bad h a0 3) (fun x34 h34 =>
      if x34 = 0 ∨ x34 = 1 then some (x34, h34) else none)
    else
      Option.bind (e_fA h a0 8 45) (fun x39 =>
      Option.bind (e_fI h a0 8 50) (fun x43 =>
      Option.bind (e_fJ h a0 8 13) (fun x47 =>
      Option.bind (e_wJ h x39 3 x43 x47) (fun h50 =>
      Option.bind (e_fI h50 a0 8 50) (fun x58 =>
      e_b2 (f_X10_lays h50 a0 (50 + a1) x58 0 0) (fun x63 h63 =>
      Option.bind (e_gI h63 a0 8 49 x63) (fun h66 =>
      Option.bind (e_fI h66 a0 8 50) (fun x71 =>
      Option.bind (e_gI h66 a0 8 50 (x71 + 1)) (fun h76 =>
      Option.bind (e_is h76 a0 8) (fun _ =>
      Option.bind (f_X10_go F h76 a0) (fun h80 =>
      some (1, h80))))))))))))))))))
set_option maxHeartbeats 4000000 in
set_option maxRecDepth 100000 in
theorem ct_X10_readNamed {l : Launch} {D : e_D} {B : Heap} {F : Nat} {d : Nat} {h : e_H} {a0 : Nat} {a1 : Int32} {v : Int32} {h1 : e_H} (hd : 4 ≤ d) (e : f_X10_readNamed F h a0 a1 = some (v, h1)) : e_Run l D B d mX10_readNamed [.ref a0, .int a1] h (.ok (some (.int v)), h1) := by
  refine e_start [some (.ref a0), some (.int a1)] (by decide) rfl rfl rfl (Nat.le_of_ble_eq_true rfl) (fun K hl0 hD0 hB0 hM hd0 hr => ?_)
  subst hl0 hD0 hB0 hd0
  have ho : (k_M K).1.cls = "PegBandsModel" := by rw [hM]; rfl
  have hT : (k_M K).2.2.2.1 = some (.boolean) := by rw [hM]
  refine (show Sx K cX10_readNamed 0 [some (.ref a0), some (.int a1)] [] h (f_X10_readNamed F h a0 a1) (fun w => w = (v, h1)) from ?_) _ e rfl
  clear e
  unfold f_X10_readNamed
  refine S_aload_n (dc_X10_readNamed 0 rfl) rfl ?_
  refine Sx.ask (fun _ i1 => ?_)
  refine S_roI (d := k_d K - 1) (e_callV (b := a0) (As := []) (rest := []) ok_X10_isName rfl (Nat.le_of_ble_eq_true rfl) (dc_X10_readNamed 1 rfl) ho q1722 q1724 (show e_cl[8]? = some (RX10, TX10, 51) from rfl) (e_sel.of qs50) (e_is_of i1) rfl (Nat.le_of_ble_eq_true rfl)) (by omega) (fun _ e => ct_X10_isName (by omega) e) (fun x1 e1 => ?_)
  refine S_if_ne 13 (dc_X10_readNamed 2 rfl) rfl (fun c4 => ?_) (fun c4 => ?_)
  · refine S_aload_n (dc_X10_readNamed 7 rfl) rfl ?_
    refine S_getA (dc_X10_readNamed 8 rfl) ho fl_X10_28_8_20 (fun _ _ => rfl) (fun x14 e14 => ?_)
    refine S_aload_n (dc_X10_readNamed 9 rfl) rfl ?_
    refine S_roI (d := k_d K - 1) (e_callV (b := a0) (As := []) (rest := [.ref x14]) ok_X10_bands rfl (Nat.le_of_ble_eq_true rfl) (dc_X10_readNamed 10 rfl) ho q1795 q1797 (show e_cl[8]? = some (RX10, TX10, 51) from rfl) (e_sel.of qs53) (e_is_of i1) rfl (Nat.le_of_ble_eq_true rfl)) (by omega) (fun _ e => ct_X10_bands (by omega) e) (fun x18 e18 => ?_)
    refine S_aload_n (dc_X10_readNamed 11 rfl) rfl ?_
    refine S_getJ (dc_X10_readNamed 12 rfl) ho fl_X10_133_8_13 (fun _ _ => rfl) (fun x22 e22 => ?_)
    refine S_roI (d := k_d K - 1) (e_callS (As := [.ref x14, .int x18, .long x22]) (rest := []) ok_X10_findIn rfl (Nat.le_of_ble_eq_true rfl) (dc_X10_readNamed 13 rfl) ho q1726 q1727 rfl (Nat.le_of_ble_eq_true rfl)) (by omega) (fun _ e => ct_X10_findIn (by omega) e) (fun x25 e25 => ?_)
    refine S_iconst_ (-1) (dc_X10_readNamed 14 rfl) rfl ?_
    refine S_icmp_ne 38 (dc_X10_readNamed 15 rfl) rfl (fun c29 => ?_) (fun c29 => ?_)
    · refine S_aload_n (dc_X10_readNamed 20 rfl) rfl ?_
      refine S_getA (dc_X10_readNamed 21 rfl) ho fl_X10_91_8_45 (fun _ _ => rfl) (fun x39 e39 => ?_)
      refine S_aload_n (dc_X10_readNamed 22 rfl) rfl ?_
      refine S_getI (dc_X10_readNamed 23 rfl) ho fl_X10_483_8_50 (fun _ _ => rfl) (fun x43 e43 => ?_)
      refine S_aload_n (dc_X10_readNamed 24 rfl) rfl ?_
      refine S_getJ (dc_X10_readNamed 25 rfl) ho fl_X10_133_8_13 (fun _ _ => rfl) (fun x47 e47 => ?_)
      refine S_last (dc_X10_readNamed 26 rfl) (fun h50 e50 => ?_)
      refine S_aload_n (dc_X10_readNamed 27 rfl) rfl ?_
      refine S_aload_n (dc_X10_readNamed 28 rfl) rfl ?_
      refine S_bipush_ 50 (dc_X10_readNamed 29 rfl) rfl ?_
      refine S_iload_n (dc_X10_readNamed 30 rfl) rfl ?_
      refine S_iadd (dc_X10_readNamed 31 rfl) ?_
      refine S_aload_n (dc_X10_readNamed 32 rfl) rfl ?_
      refine S_getI (dc_X10_readNamed 33 rfl) ho fl_X10_483_8_50 (fun _ _ => rfl) (fun x58 e58 => ?_)
      refine S_iconst_ 0 (dc_X10_readNamed 34 rfl) rfl ?_
      refine S_iconst_ 0 (dc_X10_readNamed 35 rfl) rfl ?_
      refine S_rwI (d := k_d K - 1) (e_callV (b := a0) (As := [.int (50 + a1), .int x58, .int 0, .int 0]) (rest := [.ref a0]) ok_X10_lays rfl (Nat.le_of_ble_eq_true rfl) (dc_X10_readNamed 36 rfl) ho q2131 q2133 (show e_cl[8]? = some (RX10, TX10, 51) from rfl) (e_sel.of qs103) (e_fI_of e58).1 rfl (Nat.le_of_ble_eq_true rfl)) (by omega) (fun _ _ e => ct_X10_lays (by omega) e) (fun x63 h63 e63 => ?_)
      refine S_putI (dc_X10_readNamed 37 rfl) ho fl_X10_453_8_49 (fun _ _ => rfl) (Or.inl rfl) rfl rfl (fun h66 e66 => ?_)
      refine S_aload_n (dc_X10_readNamed 38 rfl) rfl ?_
      refine S_dup (dc_X10_readNamed 39 rfl) rfl ?_
      refine S_getI (dc_X10_readNamed 40 rfl) ho fl_X10_483_8_50 (fun _ _ => rfl) (fun x71 e71 => ?_)
      refine S_iconst_ 1 (dc_X10_readNamed 41 rfl) rfl ?_
      refine S_iadd (dc_X10_readNamed 42 rfl) ?_
      refine S_putI (dc_X10_readNamed 43 rfl) ho fl_X10_483_8_50 (fun _ _ => rfl) (Or.inl rfl) rfl rfl (fun h76 e76 => ?_)
      refine S_aload_n (dc_X10_readNamed 44 rfl) rfl ?_
      refine Sx.ask (fun _ i80 => ?_)
      refine S_rwV (d := k_d K - 1) (e_callV (b := a0) (As := []) (rest := []) ok_X10_go rfl (Nat.le_of_ble_eq_true rfl) (dc_X10_readNamed 45 rfl) ho q1654 q1656 (show e_cl[8]? = some (RX10, TX10, 51) from rfl) (e_sel.of qs38) (e_is_of i80) rfl (Nat.le_of_ble_eq_true rfl)) (by omega) (fun _ e => ct_X10_go (by omega) e) (fun h80 e80 => ?_)
      refine S_iconst_ 1 (dc_X10_readNamed 46 rfl) rfl ?_
      exact S_iret (dc_X10_readNamed 47 rfl) hT rfl (e_rqI hr)
    · refine S_aload_n (dc_X10_readNamed 16 rfl) rfl ?_
      refine S_iconst_ 3 (dc_X10_readNamed 17 rfl) rfl ?_
      refine S_rwI (d := k_d K - 1) (e_callV (b := a0) (As := [.int 3]) (rest := []) ok_X10_bad rfl (Nat.le_of_ble_eq_true rfl) (dc_X10_readNamed 18 rfl) ho q1687 q1689 (show e_cl[8]? = some (RX10, TX10, 51) from rfl) (e_sel.of qs42) (e_is_of i1) rfl (Nat.le_of_ble_eq_true rfl)) (by omega) (fun _ _ e => ct_X10_bad (by omega) e) (fun x34 h34 e34 => ?_)
      refine Sx.cond (fun c37 => ?_)
      exact S_iret (dc_X10_readNamed 19 rfl) hT (e_narZ c37).1 (e_rqI hr)
  · refine S_aload_n (dc_X10_readNamed 3 rfl) rfl ?_
    refine S_iconst_ 1 (dc_X10_readNamed 4 rfl) rfl ?_
    refine S_rwI (d := k_d K - 1) (e_callV (b := a0) (As := [.int 1]) (rest := []) ok_X10_bad rfl (Nat.le_of_ble_eq_true rfl) (dc_X10_readNamed 5 rfl) ho q1687 q1689 (show e_cl[8]? = some (RX10, TX10, 51) from rfl) (e_sel.of qs42) (e_is_of i1) rfl (Nat.le_of_ble_eq_true rfl)) (by omega) (fun _ _ e => ct_X10_bad (by omega) e) (fun x9 h9 e9 => ?_)
    refine Sx.cond (fun c12 => ?_)
    exact S_iret (dc_X10_readNamed 6 rfl) hT (e_narZ c12).1 (e_rqI hr)
abbrev cX10_readCompare : ByteArray := prog_18_method_136_code
def yX10_readCompare : MethodName := ⟨"PegBandsModel", "readCompare", "(I)Z"⟩
def tb_X10_readCompare : List (Nat × Instr × Nat) := [(0, .aload_n 0, 1), (1, .bipush 60, 2), (3, .invokevirtual 182, 3), (6, .ifCond .ne 27, 3), (9, .aload_n 0, 1), (10, .bipush 61, 2), (12, .invokevirtual 182, 3), (15, .ifCond .ne 18, 3), (18, .aload_n 0, 1), (19, .bipush 62, 2), (21, .invokevirtual 182, 3), (24, .ifCond .ne 9, 3), (27, .aload_n 0, 1), (28, .iconst 1, 1), (29, .invokevirtual 165, 3), (32, .ireturn, 1), (33, .aload_n 0, 1), (34, .getfield 130, 3), (37, .istore_n 2, 1), (38, .aload_n 0, 1), (39, .invokevirtual 179, 3), (42, .aload_n 0, 1), (43, .iconst 0, 1), (44, .sipush 999, 3), (47, .invokevirtual 235, 3), (50, .ifCond .ne 5, 3), (53, .iconst 0, 1), (54, .ireturn, 1), (55, .aload_n 0, 1), (56, .aload_n 0, 1), (57, .bipush 50, 2), (59, .iload_n 1, 1), (60, .iadd, 1), (61, .iconst 0, 1), (62, .aload_n 0, 1), (63, .getfield 172, 3), (66, .iload_n 2, 1), (67, .invokevirtual 456, 3), (70, .putfield 453, 3), (73, .iconst 1, 1), (74, .ireturn, 1)]
theorem tk_X10_readCompare : ∀ q ∈ tb_X10_readCompare, decode cX10_readCompare q.1 = .ok q.2 := by decide +kernel
theorem dc_X10_readCompare (k : Nat) {pc n : Nat} {i : Instr} (h : tb_X10_readCompare[k]? = some (pc, i, n)) : decode cX10_readCompare pc = .ok (i, n) := tk_X10_readCompare (pc, i, n) (List.mem_of_getElem? h)
abbrev mX10_readCompare : e_M := (yX10_readCompare, cX10_readCompare, 3, some (.boolean), [])
theorem ok_X10_readCompare : e_mok mX10_readCompare 1 := ⟨q2142, q119, by decide +kernel, fun sig h => by cases h; rfl⟩
def f_X10_readCompare (F : Nat) (h : e_H) (a0 : Nat) (a1 : Int32) : Option (Int32 × e_H) :=
  Option.bind (e_is h a0 8) (fun _ =>
  Option.bind (f_X10_isSign h a0 60) (fun x3 =>
  e_bE (
      if x3 = 0 then
        Option.bind (f_X10_isSign h a0 61) (fun x12 =>
        if x12 = 0 then
          Option.bind (f_X10_isSign h a0 62) (fun x21 =>
          if x21 = 0 then
            e_b2 (f_X10_bad h a0 1) (fun x29 h29 =>
            if x29 = 0 ∨ x29 = 1 then some (.error (x29, h29)) else none)
          else
            some (.ok h))
        else
          some (.ok h))
      else
        some (.ok h)
    : Option (Except (Int32 × e_H) e_H)) (fun h33_1 =>
  Option.bind (e_fI h33_1 a0 8 9) (fun x34 =>
  Option.bind (f_X10_go F h33_1 a0) (fun h39 =>
  Option.bind (e_is h39 a0 8) (fun _ =>
  e_b2 (f_X10_readNumber F h39 a0 0 999) (fun x47 h47 =>
  if x47 = 0 then
    some (0, h47)
  else
    Option.bind (e_fI h47 a0 8 14) (fun x63 =>
    e_b2 (f_X10_lays h47 a0 (50 + a1) 0 x63 x34) (fun x67 h67 =>
    Option.bind (e_gI h67 a0 8 49 x67) (fun h70 =>
    some (1, h70)))))))))))
set_option maxHeartbeats 4000000 in
set_option maxRecDepth 100000 in
theorem ct_X10_readCompare {l : Launch} {D : e_D} {B : Heap} {F : Nat} {d : Nat} {h : e_H} {a0 : Nat} {a1 : Int32} {v : Int32} {h1 : e_H} (hd : 4 ≤ d) (e : f_X10_readCompare F h a0 a1 = some (v, h1)) : e_Run l D B d mX10_readCompare [.ref a0, .int a1] h (.ok (some (.int v)), h1) := by
  refine e_start [some (.ref a0), some (.int a1), none] (by decide) rfl rfl rfl (Nat.le_of_ble_eq_true rfl) (fun K hl0 hD0 hB0 hM hd0 hr => ?_)
  subst hl0 hD0 hB0 hd0
  have ho : (k_M K).1.cls = "PegBandsModel" := by rw [hM]; rfl
  have hT : (k_M K).2.2.2.1 = some (.boolean) := by rw [hM]
  refine (show Sx K cX10_readCompare 0 [some (.ref a0), some (.int a1), none] [] h (f_X10_readCompare F h a0 a1) (fun w => w = (v, h1)) from ?_) _ e rfl
  clear e
  unfold f_X10_readCompare
  refine S_aload_n (dc_X10_readCompare 0 rfl) rfl ?_
  refine S_bipush_ 60 (dc_X10_readCompare 1 rfl) rfl ?_
  refine Sx.ask (fun _ i3 => ?_)
  refine S_roI (d := k_d K - 1) (e_callV (b := a0) (As := [.int 60]) (rest := []) ok_X10_isSign rfl (Nat.le_of_ble_eq_true rfl) (dc_X10_readCompare 2 rfl) ho q1706 q1708 (show e_cl[8]? = some (RX10, TX10, 51) from rfl) (e_sel.of qs46) (e_is_of i3) rfl (Nat.le_of_ble_eq_true rfl)) (by omega) (fun _ e => ct_X10_isSign (by omega) e) (fun x3 e3 => ?_)
  refine Sx.regKE1 (pc2 := 33) (L2 := fun (h33_1 : e_H) => [some (.ref a0), some (.int a1), none]) (st2 := fun (h33_1 : e_H) => []) (h2 := fun (h33_1 : e_H) => h33_1) ?_ (fun Q1 hK1 hE1 => ?_)
  · intro h33_1
    show Sx K cX10_readCompare 33 [some (.ref a0), some (.int a1), none] [] h33_1 _ _
    refine S_aload_n (dc_X10_readCompare 16 rfl) rfl ?_
    refine S_getI (dc_X10_readCompare 17 rfl) ho fl_X10_130_8_9 (fun _ _ => rfl) (fun x34 e34 => ?_)
    refine S_istore_n (L' := [some (.ref a0), some (.int a1), some (.int x34)]) (dc_X10_readCompare 18 rfl) rfl ?_
    refine S_aload_n (dc_X10_readCompare 19 rfl) rfl ?_
    refine S_rwV (d := k_d K - 1) (e_callV (b := a0) (As := []) (rest := []) ok_X10_go rfl (Nat.le_of_ble_eq_true rfl) (dc_X10_readCompare 20 rfl) ho q1654 q1656 (show e_cl[8]? = some (RX10, TX10, 51) from rfl) (e_sel.of qs38) (e_fI_of e34).1 rfl (Nat.le_of_ble_eq_true rfl)) (by omega) (fun _ e => ct_X10_go (by omega) e) (fun h39 e39 => ?_)
    refine S_aload_n (dc_X10_readCompare 21 rfl) rfl ?_
    refine S_iconst_ 0 (dc_X10_readCompare 22 rfl) rfl ?_
    refine S_sipush_ 999 (dc_X10_readCompare 23 rfl) rfl ?_
    refine Sx.ask (fun _ i47 => ?_)
    refine S_rwI (d := k_d K - 1) (e_callV (b := a0) (As := [.int 0, .int 999]) (rest := []) ok_X10_readNumber rfl (Nat.le_of_ble_eq_true rfl) (dc_X10_readCompare 24 rfl) ho q1691 q1693 (show e_cl[8]? = some (RX10, TX10, 51) from rfl) (e_sel.of qs43) (e_is_of i47) rfl (Nat.le_of_ble_eq_true rfl)) (by omega) (fun _ _ e => ct_X10_readNumber (by omega) e) (fun x47 h47 e47 => ?_)
    refine S_if_ne 55 (dc_X10_readCompare 25 rfl) rfl (fun c50 => ?_) (fun c50 => ?_)
    · refine S_aload_n (dc_X10_readCompare 28 rfl) rfl ?_
      refine S_aload_n (dc_X10_readCompare 29 rfl) rfl ?_
      refine S_bipush_ 50 (dc_X10_readCompare 30 rfl) rfl ?_
      refine S_iload_n (dc_X10_readCompare 31 rfl) rfl ?_
      refine S_iadd (dc_X10_readCompare 32 rfl) ?_
      refine S_iconst_ 0 (dc_X10_readCompare 33 rfl) rfl ?_
      refine S_aload_n (dc_X10_readCompare 34 rfl) rfl ?_
      refine S_getI (dc_X10_readCompare 35 rfl) ho fl_X10_172_8_14 (fun _ _ => rfl) (fun x63 e63 => ?_)
      refine S_iload_n (dc_X10_readCompare 36 rfl) rfl ?_
      refine S_rwI (d := k_d K - 1) (e_callV (b := a0) (As := [.int (50 + a1), .int 0, .int x63, .int x34]) (rest := [.ref a0]) ok_X10_lays rfl (Nat.le_of_ble_eq_true rfl) (dc_X10_readCompare 37 rfl) ho q2131 q2133 (show e_cl[8]? = some (RX10, TX10, 51) from rfl) (e_sel.of qs103) (e_fI_of e63).1 rfl (Nat.le_of_ble_eq_true rfl)) (by omega) (fun _ _ e => ct_X10_lays (by omega) e) (fun x67 h67 e67 => ?_)
      refine S_putI (dc_X10_readCompare 38 rfl) ho fl_X10_453_8_49 (fun _ _ => rfl) (Or.inl rfl) rfl rfl (fun h70 e70 => ?_)
      refine S_iconst_ 1 (dc_X10_readCompare 39 rfl) rfl ?_
      exact S_iret (dc_X10_readCompare 40 rfl) hT rfl (e_rqI hr)
    · refine S_iconst_ 0 (dc_X10_readCompare 26 rfl) rfl ?_
      exact S_iret (dc_X10_readCompare 27 rfl) hT rfl (e_rqI hr)
  · have hK1 : ∀ (h33_1 : e_H), Sx K cX10_readCompare 33 [some (.ref a0), some (.int a1), none] [] h33_1 (some (.ok h33_1)) Q1 := hK1
    refine S_if_ne 33 (dc_X10_readCompare 3 rfl) rfl (fun c6 => ?_) (fun c6 => ?_)
    · exact hK1 h
    · refine S_aload_n (dc_X10_readCompare 4 rfl) rfl ?_
      refine S_bipush_ 61 (dc_X10_readCompare 5 rfl) rfl ?_
      refine S_roI (d := k_d K - 1) (e_callV (b := a0) (As := [.int 61]) (rest := []) ok_X10_isSign rfl (Nat.le_of_ble_eq_true rfl) (dc_X10_readCompare 6 rfl) ho q1706 q1708 (show e_cl[8]? = some (RX10, TX10, 51) from rfl) (e_sel.of qs46) (e_is_of i3) rfl (Nat.le_of_ble_eq_true rfl)) (by omega) (fun _ e => ct_X10_isSign (by omega) e) (fun x12 e12 => ?_)
      refine S_if_ne 33 (dc_X10_readCompare 7 rfl) rfl (fun c15 => ?_) (fun c15 => ?_)
      · exact hK1 h
      · refine S_aload_n (dc_X10_readCompare 8 rfl) rfl ?_
        refine S_bipush_ 62 (dc_X10_readCompare 9 rfl) rfl ?_
        refine S_roI (d := k_d K - 1) (e_callV (b := a0) (As := [.int 62]) (rest := []) ok_X10_isSign rfl (Nat.le_of_ble_eq_true rfl) (dc_X10_readCompare 10 rfl) ho q1706 q1708 (show e_cl[8]? = some (RX10, TX10, 51) from rfl) (e_sel.of qs46) (e_is_of i3) rfl (Nat.le_of_ble_eq_true rfl)) (by omega) (fun _ e => ct_X10_isSign (by omega) e) (fun x21 e21 => ?_)
        refine S_if_ne 33 (dc_X10_readCompare 11 rfl) rfl (fun c24 => ?_) (fun c24 => ?_)
        · exact hK1 h
        · refine S_aload_n (dc_X10_readCompare 12 rfl) rfl ?_
          refine S_iconst_ 1 (dc_X10_readCompare 13 rfl) rfl ?_
          refine S_rwI (d := k_d K - 1) (e_callV (b := a0) (As := [.int 1]) (rest := []) ok_X10_bad rfl (Nat.le_of_ble_eq_true rfl) (dc_X10_readCompare 14 rfl) ho q1687 q1689 (show e_cl[8]? = some (RX10, TX10, 51) from rfl) (e_sel.of qs42) (e_is_of i3) rfl (Nat.le_of_ble_eq_true rfl)) (by omega) (fun _ _ e => ct_X10_bad (by omega) e) (fun x29 h29 e29 => ?_)
          refine Sx.cond (fun c32 => ?_)
          refine Sx.err hE1 ?_
          exact S_iret (dc_X10_readCompare 15 rfl) hT (e_narZ c32).1 (e_rqI hr)
def tb_X10_readOne : List (Nat × Instr × Nat) := [(0, .aload_n 0, 1), (1, .bipush 40, 2), (3, .invokevirtual 182, 3), (6, .istore_n 1, 1), (7, .bipush 8, 2), (9, .istore_n 2, 1), (10, .iload_n 2, 1), (11, .bipush 16, 2), (13, .if_icmp .gt 17, 3), (16, .aload_n 0, 1), (17, .iload_n 2, 1), (18, .invokevirtual 252, 3), (21, .ifCond .ne 9, 3), (24, .iinc 2 1, 3), (27, .goto (-17), 3), (30, .iload_n 1, 1), (31, .ifCond .ne 15, 3), (34, .iload_n 2, 1), (35, .bipush 16, 2), (37, .if_icmp .le 9, 3), (40, .aload_n 0, 1), (41, .iconst 1, 1), (42, .invokevirtual 165, 3), (45, .ireturn, 1), (46, .aload_n 0, 1), (47, .getfield 463, 3), (50, .bipush 20, 2), (52, .if_icmp .eq 12, 3), (55, .aload_n 0, 1), (56, .getfield 466, 3), (59, .bipush 8, 2), (61, .if_icmp .ne 9, 3), (64, .aload_n 0, 1), (65, .iconst 4, 1), (66, .invokevirtual 165, 3), (69, .ireturn, 1), (70, .aload_n 0, 1), (71, .dup, 1), (72, .getfield 463, 3), (75, .iconst 1, 1), (76, .iadd, 1), (77, .putfield 463, 3), (80, .aload_n 0, 1), (81, .dup, 1), (82, .getfield 466, 3), (85, .iconst 1, 1), (86, .iadd, 1), (87, .putfield 466, 3), (90, .aload_n 0, 1), (91, .invokevirtual 179, 3), (94, .iconst 1, 1), (95, .istore_n 3, 1), (96, .iload_n 1, 1), (97, .ifCond .eq 11, 3), (100, .aload_n 0, 1), (101, .invokevirtual 468, 3), (104, .istore_n 3, 1), (105, .goto 61, 3), (108, .iload_n 2, 1), (109, .bipush 8, 2), (111, .if_icmp .ne 11, 3), (114, .aload_n 0, 1), (115, .invokevirtual 471, 3), (118, .istore_n 3, 1), (119, .goto 47, 3), (122, .iload_n 2, 1), (123, .bipush 11, 2), (125, .if_icmp .ne 21, 3), (128, .aload_n 0, 1), (129, .aload_n 0, 1), (130, .bipush 50, 2), (132, .iload_n 2, 1), (133, .iadd, 1), (134, .iconst 0, 1), (135, .iconst 0, 1), (136, .iconst 0, 1), (137, .invokevirtual 456, 3), (140, .putfield 453, 3), (143, .goto 23, 3), (146, .iload_n 2, 1), (147, .bipush 11, 2), (149, .if_icmp .ge 11, 3), (152, .aload_n 0, 1), (153, .iload_n 2, 1), (154, .invokevirtual 474, 3), (157, .goto 8, 3), (160, .aload_n 0, 1), (161, .iload_n 2, 1), (162, .invokevirtual 477, 3), (165, .istore_n 3, 1), (166, .aload_n 0, 1), (167, .dup, 1), (168, .getfield 466, 3), (171, .iconst 1, 1), (172, .isub, 1), (173, .putfield 466, 3), (176, .iload_n 3, 1), (177, .ireturn, 1)]
theorem tk_X10_readOne : ∀ q ∈ tb_X10_readOne, decode cX10_readOne q.1 = .ok q.2 := by decide +kernel
theorem dc_X10_readOne (k : Nat) {pc n : Nat} {i : Instr} (h : tb_X10_readOne[k]? = some (pc, i, n)) : decode cX10_readOne pc = .ok (i, n) := tk_X10_readOne (pc, i, n) (List.mem_of_getElem? h)
theorem fl_X10_463_8_47 : e_FL "PegBandsModel" 463 8 47 := ⟨_, rfl, by decide, Or.inl q1518⟩
theorem fl_X10_466_8_48 : e_FL "PegBandsModel" 466 8 48 := ⟨_, rfl, by decide, Or.inl q1519⟩
def lp_X10_readOne_10 (F : Nat) (S : e_H → Nat → Option (Int32 × e_H)) (h : e_H) (a0 : Nat) : Nat → Int32 → Option (Int32)
  | 0, _ => none
  | n + 1, x2_10 =>
    if 16 < x2_10 then
      some x2_10
    else
      Option.bind (f_X10_isWord h a0 x2_10) (fun x18 =>
      if x18 = 0 then
        Option.bind (some (x2_10 + 1)) (fun x24 =>
        lp_X10_readOne_10 F S h a0 n x24)
      else
        some x2_10)
def fb_X10_readOne (F : Nat) (S : e_H → Nat → Option (Int32 × e_H)) (h : e_H) (a0 : Nat) : Option (Int32 × e_H) :=
  Option.bind (e_is h a0 8) (fun _ =>
  Option.bind (f_X10_isSign h a0 40) (fun x3 =>
  Option.bind (
      lp_X10_readOne_10 F S h a0 F 8
    : Option (Int32)) (fun x2_30_1 =>
  e_bE (
      if x3 = 0 then
        if x2_30_1 ≤ 16 then
          some (.ok h)
        else
          e_b2 (f_X10_bad h a0 1) (fun x42 h42 =>
          if x42 = 0 ∨ x42 = 1 then some (.error (x42, h42)) else none)
      else
        some (.ok h)
    : Option (Except (Int32 × e_H) e_H)) (fun h46_2 =>
  Option.bind (e_fI h46_2 a0 8 47) (fun x47 =>
  e_bE (
      if x47 = 20 then
        some (.ok h46_2)
      else
        Option.bind (e_fI h46_2 a0 8 48) (fun x56 =>
        if x56 = 8 then
          some (.ok h46_2)
        else
          Option.bind (e_fI h46_2 a0 8 47) (fun x72 =>
          Option.bind (e_gI h46_2 a0 8 47 (x72 + 1)) (fun h77 =>
          Option.bind (e_fI h77 a0 8 48) (fun x82 =>
          Option.bind (e_gI h77 a0 8 48 (x82 + 1)) (fun h87 =>
          Option.bind (e_is h87 a0 8) (fun _ =>
          Option.bind (f_X10_go F h87 a0) (fun h91 =>
          Option.bind (
              if x3 = 0 then
                if x2_30_1 = 8 then
                  Option.bind (e_is h91 a0 8) (fun _ =>
                  e_b2 (f_X10_readNot F S h91 a0) (fun x115 h115 =>
                  some (x115, h115)))
                else
                  if x2_30_1 = 11 then
                    Option.bind (e_is h91 a0 8) (fun _ =>
                    e_b2 (f_X10_lays h91 a0 (50 + x2_30_1) 0 0 0) (fun x137 h137 =>
                    Option.bind (e_gI h137 a0 8 49 x137) (fun h140 =>
                    some (1, h140))))
                  else
                    Option.bind (
                        if 11 ≤ x2_30_1 then
                          Option.bind (e_is h91 a0 8) (fun _ =>
                          e_b2 (f_X10_readCompare F h91 a0 x2_30_1) (fun x162 h162 =>
                          some (x162, h162)))
                        else
                          Option.bind (e_is h91 a0 8) (fun _ =>
                          e_b2 (f_X10_readNamed F h91 a0 x2_30_1) (fun x154 h154 =>
                          some (x154, h154)))
                      : Option ((Int32 × e_H))) (e_u2 (fun s165_5 h165_5 =>
                    some (s165_5, h165_5)))
              else
                Option.bind (e_is h91 a0 8) (fun _ =>
                e_b2 (f_X10_readBracket F S h91 a0) (fun x101 h101 =>
                some (x101, h101)))
            : Option ((Int32 × e_H))) (e_u2 (fun x3_166_4 h166_4 =>
          Option.bind (e_fI h166_4 a0 8 48) (fun x168 =>
          Option.bind (e_gI h166_4 a0 8 48 (x168 - 1)) (fun h173 =>
          if x3_166_4 = 0 ∨ x3_166_4 = 1 then some (.error (x3_166_4, h173)) else none)))))))))))
    : Option (Except (Int32 × e_H) e_H)) (fun h64_3 =>
  Option.bind (e_is h64_3 a0 8) (fun _ =>
  e_b2 (f_X10_bad h64_3 a0 4) (fun x66 h66 =>
  if x66 = 0 ∨ x66 = 1 then some (x66, h66) else none))))))))
set_option maxHeartbeats 4000000 in
set_option maxRecDepth 100000 in
theorem cb_X10_readOne {l : Launch} {D : e_D} {B : Heap} {F : Nat} {S : e_H → Nat → Option (Int32 × e_H)} {dS : Nat} {d : Nat} {h : e_H} {a0 : Nat} {v : Int32} {h1 : e_H} (hS : ∀ {h : e_H} {a0 : Nat} {v : Int32} {h1 : e_H} , S h a0 = some (v, h1) → e_Run l D B dS mX10_readOne [.ref a0] h (.ok (some (.int v)), h1)) (hd : 7 ≤ d) (hd2 : dS + 6 ≤ d) (e : fb_X10_readOne F S h a0 = some (v, h1)) : e_Run l D B d mX10_readOne [.ref a0] h (.ok (some (.int v)), h1) := by
  refine e_start [some (.ref a0), none, none, none] (by decide) rfl rfl rfl (Nat.le_of_ble_eq_true rfl) (fun K hl0 hD0 hB0 hM hd0 hr => ?_)
  subst hl0 hD0 hB0 hd0
  have ho : (k_M K).1.cls = "PegBandsModel" := by rw [hM]; rfl
  have hT : (k_M K).2.2.2.1 = some (.boolean) := by rw [hM]
  refine (show Sx K cX10_readOne 0 [some (.ref a0), none, none, none] [] h (fb_X10_readOne F S h a0) (fun w => w = (v, h1)) from ?_) _ e rfl
  clear e
  unfold fb_X10_readOne
  refine S_aload_n (dc_X10_readOne 0 rfl) rfl ?_
  refine S_bipush_ 40 (dc_X10_readOne 1 rfl) rfl ?_
  refine Sx.ask (fun _ i3 => ?_)
  refine S_roI (d := k_d K - 1) (e_callV (b := a0) (As := [.int 40]) (rest := []) ok_X10_isSign rfl (Nat.le_of_ble_eq_true rfl) (dc_X10_readOne 2 rfl) ho q1706 q1708 (show e_cl[8]? = some (RX10, TX10, 51) from rfl) (e_sel.of qs46) (e_is_of i3) rfl (Nat.le_of_ble_eq_true rfl)) (by omega) (fun _ e => ct_X10_isSign (by omega) e) (fun x3 e3 => ?_)
  refine S_istore_n (L' := [some (.ref a0), some (.int x3), none, none]) (dc_X10_readOne 3 rfl) rfl ?_
  refine S_bipush_ 8 (dc_X10_readOne 4 rfl) rfl ?_
  refine S_istore_n (L' := [some (.ref a0), some (.int x3), some (.int 8), none]) (dc_X10_readOne 5 rfl) rfl ?_
  refine Sx.regK1 (pc2 := 30) (L2 := fun (x2_30_1 : Int32) => [some (.ref a0), some (.int x3), some (.int x2_30_1), none]) (st2 := fun (x2_30_1 : Int32) => []) (h2 := fun (x2_30_1 : Int32) => h) ?_ (fun Q1 hK1 => ?_)
  · intro x2_30_1
    show Sx K cX10_readOne 30 [some (.ref a0), some (.int x3), some (.int x2_30_1), none] [] h _ _
    refine S_iload_n (dc_X10_readOne 15 rfl) rfl ?_
    refine Sx.regKE1 (pc2 := 46) (L2 := fun (h46_2 : e_H) => [some (.ref a0), some (.int x3), some (.int x2_30_1), none]) (st2 := fun (h46_2 : e_H) => []) (h2 := fun (h46_2 : e_H) => h46_2) ?_ (fun Q2 hK2 hE2 => ?_)
    · intro h46_2
      show Sx K cX10_readOne 46 [some (.ref a0), some (.int x3), some (.int x2_30_1), none] [] h46_2 _ _
      refine S_aload_n (dc_X10_readOne 24 rfl) rfl ?_
      refine S_getI (dc_X10_readOne 25 rfl) ho fl_X10_463_8_47 (fun _ _ => rfl) (fun x47 e47 => ?_)
      refine S_bipush_ 20 (dc_X10_readOne 26 rfl) rfl ?_
      refine Sx.regKE1 (pc2 := 64) (L2 := fun (h64_3 : e_H) => [some (.ref a0), none, none, none]) (st2 := fun (h64_3 : e_H) => []) (h2 := fun (h64_3 : e_H) => h64_3) ?_ (fun Q3 hK3 hE3 => ?_)
      · intro h64_3
        show Sx K cX10_readOne 64 [some (.ref a0), none, none, none] [] h64_3 _ _
        refine S_aload_n (dc_X10_readOne 32 rfl) rfl ?_
        refine S_iconst_ 4 (dc_X10_readOne 33 rfl) rfl ?_
        refine Sx.ask (fun _ i66 => ?_)
        refine S_rwI (d := k_d K - 1) (e_callV (b := a0) (As := [.int 4]) (rest := []) ok_X10_bad rfl (Nat.le_of_ble_eq_true rfl) (dc_X10_readOne 34 rfl) ho q1687 q1689 (show e_cl[8]? = some (RX10, TX10, 51) from rfl) (e_sel.of qs42) (e_is_of i66) rfl (Nat.le_of_ble_eq_true rfl)) (by omega) (fun _ _ e => ct_X10_bad (by omega) e) (fun x66 h66 e66 => ?_)
        refine Sx.cond (fun c69 => ?_)
        exact S_iret (dc_X10_readOne 35 rfl) hT (e_narZ c69).1 (e_rqI hr)
      · have hK3 : ∀ (h64_3 : e_H), Sx K cX10_readOne 64 [some (.ref a0), none, none, none] [] h64_3 (some (.ok h64_3)) Q3 := hK3
        refine S_icmp_eq 64 (dc_X10_readOne 27 rfl) rfl (fun c52 => ?_) (fun c52 => ?_)
        · refine Sx.cut [true, false, false, true] ?_
          exact hK3 h46_2
        · refine S_aload_n (dc_X10_readOne 28 rfl) rfl ?_
          refine S_getI (dc_X10_readOne 29 rfl) ho fl_X10_466_8_48 (fun _ _ => rfl) (fun x56 e56 => ?_)
          refine S_bipush_ 8 (dc_X10_readOne 30 rfl) rfl ?_
          refine S_icmp_ne 70 (dc_X10_readOne 31 rfl) rfl (fun c61 => ?_) (fun c61 => ?_)
          · refine S_aload_n (dc_X10_readOne 36 rfl) rfl ?_
            refine S_dup (dc_X10_readOne 37 rfl) rfl ?_
            refine S_getI (dc_X10_readOne 38 rfl) ho fl_X10_463_8_47 (fun _ _ => rfl) (fun x72 e72 => ?_)
            refine S_iconst_ 1 (dc_X10_readOne 39 rfl) rfl ?_
            refine S_iadd (dc_X10_readOne 40 rfl) ?_
            refine S_putI (dc_X10_readOne 41 rfl) ho fl_X10_463_8_47 (fun _ _ => rfl) (Or.inl rfl) rfl rfl (fun h77 e77 => ?_)
            refine S_aload_n (dc_X10_readOne 42 rfl) rfl ?_
            refine S_dup (dc_X10_readOne 43 rfl) rfl ?_
            refine S_getI (dc_X10_readOne 44 rfl) ho fl_X10_466_8_48 (fun _ _ => rfl) (fun x82 e82 => ?_)
            refine S_iconst_ 1 (dc_X10_readOne 45 rfl) rfl ?_
            refine S_iadd (dc_X10_readOne 46 rfl) ?_
            refine S_putI (dc_X10_readOne 47 rfl) ho fl_X10_466_8_48 (fun _ _ => rfl) (Or.inl rfl) rfl rfl (fun h87 e87 => ?_)
            refine S_aload_n (dc_X10_readOne 48 rfl) rfl ?_
            refine Sx.ask (fun _ i91 => ?_)
            refine S_rwV (d := k_d K - 1) (e_callV (b := a0) (As := []) (rest := []) ok_X10_go rfl (Nat.le_of_ble_eq_true rfl) (dc_X10_readOne 49 rfl) ho q1654 q1656 (show e_cl[8]? = some (RX10, TX10, 51) from rfl) (e_sel.of qs38) (e_is_of i91) rfl (Nat.le_of_ble_eq_true rfl)) (by omega) (fun _ e => ct_X10_go (by omega) e) (fun h91 e91 => ?_)
            refine S_iconst_ 1 (dc_X10_readOne 50 rfl) rfl ?_
            refine S_istore_n (L' := [some (.ref a0), some (.int x3), some (.int x2_30_1), some (.int 1)]) (dc_X10_readOne 51 rfl) rfl ?_
            refine S_iload_n (dc_X10_readOne 52 rfl) rfl ?_
            refine Sx.regK2 (pc2 := 166) (L2 := fun (x3_166_4 : Int32) (h166_4 : e_H) => [some (.ref a0), none, none, some (.int x3_166_4)]) (st2 := fun (x3_166_4 : Int32) (h166_4 : e_H) => []) (h2 := fun (x3_166_4 : Int32) (h166_4 : e_H) => h166_4) ?_ (fun Q4 hK4 => ?_)
            · intro x3_166_4 h166_4
              show Sx K cX10_readOne 166 [some (.ref a0), none, none, some (.int x3_166_4)] [] h166_4 _ _
              refine S_aload_n (dc_X10_readOne 90 rfl) rfl ?_
              refine S_dup (dc_X10_readOne 91 rfl) rfl ?_
              refine S_getI (dc_X10_readOne 92 rfl) ho fl_X10_466_8_48 (fun _ _ => rfl) (fun x168 e168 => ?_)
              refine S_iconst_ 1 (dc_X10_readOne 93 rfl) rfl ?_
              refine S_isub (dc_X10_readOne 94 rfl) ?_
              refine S_putI (dc_X10_readOne 95 rfl) ho fl_X10_466_8_48 (fun _ _ => rfl) (Or.inl rfl) rfl rfl (fun h173 e173 => ?_)
              refine S_iload_n (dc_X10_readOne 96 rfl) rfl ?_
              refine Sx.cond (fun c177 => ?_)
              refine Sx.err hE3 ?_
              exact S_iret (dc_X10_readOne 97 rfl) hT (e_narZ c177).1 (e_rqI hr)
            · have hK4 : ∀ (x3_166_4 : Int32) (h166_4 : e_H), Sx K cX10_readOne 166 [some (.ref a0), none, none, some (.int x3_166_4)] [] h166_4 (some (x3_166_4, h166_4)) Q4 := hK4
              refine S_if_eq 108 (dc_X10_readOne 53 rfl) rfl (fun c97 => ?_) (fun c97 => ?_)
              · refine S_iload_n (dc_X10_readOne 58 rfl) rfl ?_
                refine S_bipush_ 8 (dc_X10_readOne 59 rfl) rfl ?_
                refine S_icmp_ne 122 (dc_X10_readOne 60 rfl) rfl (fun c111 => ?_) (fun c111 => ?_)
                · refine S_iload_n (dc_X10_readOne 65 rfl) rfl ?_
                  refine S_bipush_ 11 (dc_X10_readOne 66 rfl) rfl ?_
                  refine S_icmp_ne 146 (dc_X10_readOne 67 rfl) rfl (fun c125 => ?_) (fun c125 => ?_)
                  · refine S_iload_n (dc_X10_readOne 79 rfl) rfl ?_
                    refine S_bipush_ 11 (dc_X10_readOne 80 rfl) rfl ?_
                    refine Sx.regK2 (pc2 := 165) (L2 := fun (s165_5 : Int32) (h165_5 : e_H) => [some (.ref a0), none, none, none]) (st2 := fun (s165_5 : Int32) (h165_5 : e_H) => [.int s165_5]) (h2 := fun (s165_5 : Int32) (h165_5 : e_H) => h165_5) ?_ (fun Q5 hK5 => ?_)
                    · intro s165_5 h165_5
                      show Sx K cX10_readOne 165 [some (.ref a0), none, none, none] [.int s165_5] h165_5 _ _
                      refine S_istore_n (L' := [some (.ref a0), none, none, some (.int s165_5)]) (dc_X10_readOne 89 rfl) rfl ?_
                      exact hK4 s165_5 h165_5
                    · have hK5 : ∀ (s165_5 : Int32) (h165_5 : e_H), Sx K cX10_readOne 165 [some (.ref a0), none, none, none] [.int s165_5] h165_5 (some (s165_5, h165_5)) Q5 := hK5
                      refine S_icmp_ge 160 (dc_X10_readOne 81 rfl) rfl (fun c149 => ?_) (fun c149 => ?_)
                      · refine S_aload_n (dc_X10_readOne 86 rfl) rfl ?_
                        refine S_iload_n (dc_X10_readOne 87 rfl) rfl ?_
                        refine Sx.ask (fun _ i162 => ?_)
                        refine S_rwI (d := k_d K - 1) (e_callV (b := a0) (As := [.int x2_30_1]) (rest := []) ok_X10_readCompare rfl (Nat.le_of_ble_eq_true rfl) (dc_X10_readOne 88 rfl) ho q2139 q2141 (show e_cl[8]? = some (RX10, TX10, 51) from rfl) (e_sel.of qs105) (e_is_of i162) rfl (Nat.le_of_ble_eq_true rfl)) (by omega) (fun _ _ e => ct_X10_readCompare (by omega) e) (fun x162 h162 e162 => ?_)
                        refine Sx.cut [true, false, false, false] ?_
                        exact hK5 x162 h162
                      · refine S_aload_n (dc_X10_readOne 82 rfl) rfl ?_
                        refine S_iload_n (dc_X10_readOne 83 rfl) rfl ?_
                        refine Sx.ask (fun _ i154 => ?_)
                        refine S_rwI (d := k_d K - 1) (e_callV (b := a0) (As := [.int x2_30_1]) (rest := []) ok_X10_readNamed rfl (Nat.le_of_ble_eq_true rfl) (dc_X10_readOne 84 rfl) ho q2135 q2137 (show e_cl[8]? = some (RX10, TX10, 51) from rfl) (e_sel.of qs104) (e_is_of i154) rfl (Nat.le_of_ble_eq_true rfl)) (by omega) (fun _ _ e => ct_X10_readNamed (by omega) e) (fun x154 h154 e154 => ?_)
                        refine S_goto 165 (dc_X10_readOne 85 rfl) rfl ?_
                        refine Sx.cut [true, false, false, false] ?_
                        exact hK5 x154 h154
                  · refine S_aload_n (dc_X10_readOne 68 rfl) rfl ?_
                    refine S_aload_n (dc_X10_readOne 69 rfl) rfl ?_
                    refine S_bipush_ 50 (dc_X10_readOne 70 rfl) rfl ?_
                    refine S_iload_n (dc_X10_readOne 71 rfl) rfl ?_
                    refine S_iadd (dc_X10_readOne 72 rfl) ?_
                    refine S_iconst_ 0 (dc_X10_readOne 73 rfl) rfl ?_
                    refine S_iconst_ 0 (dc_X10_readOne 74 rfl) rfl ?_
                    refine S_iconst_ 0 (dc_X10_readOne 75 rfl) rfl ?_
                    refine Sx.ask (fun _ i137 => ?_)
                    refine S_rwI (d := k_d K - 1) (e_callV (b := a0) (As := [.int (50 + x2_30_1), .int 0, .int 0, .int 0]) (rest := [.ref a0]) ok_X10_lays rfl (Nat.le_of_ble_eq_true rfl) (dc_X10_readOne 76 rfl) ho q2131 q2133 (show e_cl[8]? = some (RX10, TX10, 51) from rfl) (e_sel.of qs103) (e_is_of i137) rfl (Nat.le_of_ble_eq_true rfl)) (by omega) (fun _ _ e => ct_X10_lays (by omega) e) (fun x137 h137 e137 => ?_)
                    refine S_putI (dc_X10_readOne 77 rfl) ho fl_X10_453_8_49 (fun _ _ => rfl) (Or.inl rfl) rfl rfl (fun h140 e140 => ?_)
                    refine S_goto 166 (dc_X10_readOne 78 rfl) rfl ?_
                    refine Sx.cut [true, false, false, true] ?_
                    exact hK4 1 h140
                · refine S_aload_n (dc_X10_readOne 61 rfl) rfl ?_
                  refine Sx.ask (fun _ i115 => ?_)
                  refine S_rwI (d := k_d K - 1) (e_callV (b := a0) (As := []) (rest := []) ok_X10_readNot rfl (Nat.le_of_ble_eq_true rfl) (dc_X10_readOne 62 rfl) ho q2127 q2129 (show e_cl[8]? = some (RX10, TX10, 51) from rfl) (e_sel.of qs102) (e_is_of i115) rfl (Nat.le_of_ble_eq_true rfl)) (by omega) (fun _ _ e => ct_X10_readNot (dS := dS) (hS := hS) (by omega) (by omega) e) (fun x115 h115 e115 => ?_)
                  refine S_istore_n (L' := [some (.ref a0), some (.int x3), some (.int x2_30_1), some (.int x115)]) (dc_X10_readOne 63 rfl) rfl ?_
                  refine S_goto 166 (dc_X10_readOne 64 rfl) rfl ?_
                  refine Sx.cut [true, false, false, true] ?_
                  exact hK4 x115 h115
              · refine S_aload_n (dc_X10_readOne 54 rfl) rfl ?_
                refine Sx.ask (fun _ i101 => ?_)
                refine S_rwI (d := k_d K - 1) (e_callV (b := a0) (As := []) (rest := []) ok_X10_readBracket rfl (Nat.le_of_ble_eq_true rfl) (dc_X10_readOne 55 rfl) ho q2123 q2125 (show e_cl[8]? = some (RX10, TX10, 51) from rfl) (e_sel.of qs101) (e_is_of i101) rfl (Nat.le_of_ble_eq_true rfl)) (by omega) (fun _ _ e => ct_X10_readBracket (dS := dS) (hS := hS) (by omega) (by omega) e) (fun x101 h101 e101 => ?_)
                refine S_istore_n (L' := [some (.ref a0), some (.int x3), some (.int x2_30_1), some (.int x101)]) (dc_X10_readOne 56 rfl) rfl ?_
                refine S_goto 166 (dc_X10_readOne 57 rfl) rfl ?_
                refine Sx.cut [true, false, false, true] ?_
                exact hK4 x101 h101
          · refine Sx.cut [true, false, false, true] ?_
            exact hK3 h46_2
    · have hK2 : ∀ (h46_2 : e_H), Sx K cX10_readOne 46 [some (.ref a0), some (.int x3), some (.int x2_30_1), none] [] h46_2 (some (.ok h46_2)) Q2 := hK2
      refine S_if_ne 46 (dc_X10_readOne 16 rfl) rfl (fun c31 => ?_) (fun c31 => ?_)
      · exact hK2 h
      · refine S_iload_n (dc_X10_readOne 17 rfl) rfl ?_
        refine S_bipush_ 16 (dc_X10_readOne 18 rfl) rfl ?_
        refine S_icmp_le 46 (dc_X10_readOne 19 rfl) rfl (fun c37 => ?_) (fun c37 => ?_)
        · exact hK2 h
        · refine S_aload_n (dc_X10_readOne 20 rfl) rfl ?_
          refine S_iconst_ 1 (dc_X10_readOne 21 rfl) rfl ?_
          refine S_rwI (d := k_d K - 1) (e_callV (b := a0) (As := [.int 1]) (rest := []) ok_X10_bad rfl (Nat.le_of_ble_eq_true rfl) (dc_X10_readOne 22 rfl) ho q1687 q1689 (show e_cl[8]? = some (RX10, TX10, 51) from rfl) (e_sel.of qs42) (e_is_of i3) rfl (Nat.le_of_ble_eq_true rfl)) (by omega) (fun _ _ e => ct_X10_bad (by omega) e) (fun x42 h42 e42 => ?_)
          refine Sx.cond (fun c45 => ?_)
          refine Sx.err hE2 ?_
          exact S_iret (dc_X10_readOne 23 rfl) hT (e_narZ c45).1 (e_rqI hr)
  · have hK1 : ∀ (x2_30_1 : Int32), Sx K cX10_readOne 30 [some (.ref a0), some (.int x3), some (.int x2_30_1), none] [] h (some x2_30_1) Q1 := hK1
    have ih1 : ∀ (n : Nat) (x2_10 : Int32), Sx K cX10_readOne 10 [some (.ref a0), some (.int x3), some (.int x2_10), none] [] h (lp_X10_readOne_10 F S h a0 n x2_10) Q1 := by
      intro n
      induction n with
      | zero => intro x2_10; exact Sx.none
      | succ n ih1 =>
        intro x2_10
        rw [lp_X10_readOne_10.eq_2]
        refine S_iload_n (dc_X10_readOne 6 rfl) rfl ?_
        refine S_bipush_ 16 (dc_X10_readOne 7 rfl) rfl ?_
        refine S_icmp_gt 30 (dc_X10_readOne 8 rfl) rfl (fun c13 => ?_) (fun c13 => ?_)
        · exact hK1 x2_10
        · refine S_aload_n (dc_X10_readOne 9 rfl) rfl ?_
          refine S_iload_n (dc_X10_readOne 10 rfl) rfl ?_
          refine S_roI (d := k_d K - 1) (e_callV (b := a0) (As := [.int x2_10]) (rest := []) ok_X10_isWord rfl (Nat.le_of_ble_eq_true rfl) (dc_X10_readOne 11 rfl) ho q1674 q1676 (show e_cl[8]? = some (RX10, TX10, 51) from rfl) (e_sel.of qs41) (e_is_of i3) rfl (Nat.le_of_ble_eq_true rfl)) (by omega) (fun _ e => ct_X10_isWord (by omega) e) (fun x18 e18 => ?_)
          refine S_if_ne 30 (dc_X10_readOne 12 rfl) rfl (fun c21 => ?_) (fun c21 => ?_)
          · exact hK1 x2_10
          · refine S_iincN 1 (L' := fun x24 => [some (.ref a0), some (.int x3), some (.int x24), none]) (dc_X10_readOne 13 rfl) rfl rfl (fun _ => rfl) (fun x24 n24 => ?_)
            refine S_goto 10 (dc_X10_readOne 14 rfl) rfl ?_
            exact ih1 x24
    exact ih1 F 8
def f_X10_readOne (F : Nat) : Nat → e_H → Nat → Option (Int32 × e_H)
  | 0, _, _ => none
  | n + 1, h, a0 => fb_X10_readOne F (f_X10_readOne F n) h a0
theorem ct_X10_readOne {l : Launch} {D : e_D} {B : Heap} {F : Nat} (n : Nat) : ∀ {d : Nat} {h : e_H} {a0 : Nat} {v : Int32} {h1 : e_H} (hd : 8 * n + 20 ≤ d) (e : f_X10_readOne F n h a0 = some (v, h1)), e_Run l D B d mX10_readOne [.ref a0] h (.ok (some (.int v)), h1) := by
  induction n with
  | zero => intros; rename_i e; cases e
  | succ n ih => intros; rename_i hd e; exact cb_X10_readOne (dS := 8 * n + 20) (fun e => ih (Nat.le_refl _) e) (by omega) (by omega) e
