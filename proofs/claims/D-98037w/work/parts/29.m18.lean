/-! printed by gen/gen.py -/
set_option maxRecDepth 100000
abbrev cX1_canLay : ByteArray := prog_1_method_74_code
def yX1_canLay : MethodName := ⟨"PegBands", "canLay", "(II)Z"⟩
def tb_X1_canLay : List (Nat × Instr × Nat) := [(0, .iload_n 1, 1), (1, .bipush 10, 2), (3, .irem, 1), (4, .istore_n 3, 1), (5, .iload_n 1, 1), (6, .bipush 10, 2), (8, .idiv, 1), (9, .istore 4, 2), (11, .iload_n 2, 1), (12, .bipush 10, 2), (14, .irem, 1), (15, .istore 5, 2), (17, .iload_n 2, 1), (18, .bipush 10, 2), (20, .idiv, 1), (21, .istore 6, 2), (23, .iload_n 1, 1), (24, .iload_n 2, 1), (25, .if_icmp .eq 46, 3), (28, .aload_n 0, 1), (29, .getfield 63, 3), (32, .iload_n 3, 1), (33, .iload 4, 2), (35, .invokevirtual 356, 3), (38, .ifCond .eq 33, 3), (41, .aload_n 0, 1), (42, .getfield 63, 3), (45, .iload 5, 2), (47, .iload 6, 2), (49, .invokevirtual 356, 3), (52, .ifCond .eq 19, 3), (55, .iload 5, 2), (57, .iload_n 3, 1), (58, .isub, 1), (59, .iload 6, 2), (61, .iload 4, 2), (63, .isub, 1), (64, .invokestatic 173, 3), (67, .iconst 1, 1), (68, .if_icmp .eq 5, 3), (71, .iconst 0, 1), (72, .ireturn, 1), (73, .iconst 0, 1), (74, .istore 7, 2), (76, .iload 7, 2), (78, .aload_n 0, 1), (79, .getfield 212, 3), (82, .if_icmp .ge 64, 3), (85, .iload_n 3, 1), (86, .iload 4, 2), (88, .iload 5, 2), (90, .iload 6, 2), (92, .aload_n 0, 1), (93, .getfield 134, 3), (96, .iload 7, 2), (98, .iaload, 1), (99, .bipush 10, 2), (101, .irem, 1), (102, .aload_n 0, 1), (103, .getfield 134, 3), (106, .iload 7, 2), (108, .iaload, 1), (109, .bipush 10, 2), (111, .idiv, 1), (112, .aload_n 0, 1), (113, .getfield 137, 3), (116, .iload 7, 2), (118, .iaload, 1), (119, .bipush 10, 2), (121, .irem, 1), (122, .aload_n 0, 1), (123, .getfield 137, 3), (126, .iload 7, 2), (128, .iaload, 1), (129, .bipush 10, 2), (131, .idiv, 1), (132, .invokestatic 413, 3), (135, .ifCond .eq 5, 3), (138, .iconst 0, 1), (139, .ireturn, 1), (140, .iinc 7 1, 3), (143, .goto (-67), 3), (146, .iconst 1, 1), (147, .ireturn, 1)]
theorem tk_X1_canLay : ∀ q ∈ tb_X1_canLay, decode cX1_canLay q.1 = .ok q.2 := by decide +kernel
theorem dc_X1_canLay (k : Nat) {pc n : Nat} {i : Instr} (h : tb_X1_canLay[k]? = some (pc, i, n)) : decode cX1_canLay pc = .ok (i, n) := tk_X1_canLay (pc, i, n) (List.mem_of_getElem? h)
abbrev mX1_canLay : e_M := (yX1_canLay, cX1_canLay, 8, some (.boolean), [])
theorem ok_X1_canLay : e_mok mX1_canLay 2 := ⟨q1196, q108, by decide +kernel, fun sig h => by cases h; rfl⟩
def lp_X1_canLay_76 (F : Nat) (h : e_H) (a0 : Nat) (x4 : Int32) (x9 : Int32) (x15 : Int32) (x21 : Int32) : Nat → Int32 → Option (Except Int32 Unit)
  | 0, _ => none
  | n + 1, x7_76 =>
    Option.bind (e_fI h a0 0 33) (fun x79 =>
    if x79 ≤ x7_76 then
      some (.ok ())
    else
      Option.bind (e_fA h a0 0 31) (fun x93 =>
      Option.bind (e_aI h x93 0 x7_76) (fun x98 =>
      Option.bind (e_fA h a0 0 31) (fun x103 =>
      Option.bind (e_aI h x103 0 x7_76) (fun x108 =>
      Option.bind (e_fA h a0 0 32) (fun x113 =>
      Option.bind (e_aI h x113 0 x7_76) (fun x118 =>
      Option.bind (e_fA h a0 0 32) (fun x123 =>
      Option.bind (e_aI h x123 0 x7_76) (fun x128 =>
      Option.bind (f_X1_meets x4 x9 x15 x21 (x98 - x98 / 10 * 10) (x108 / 10) (x118 - x118 / 10 * 10) (x128 / 10)) (fun x132 =>
      if x132 = 0 then
        Option.bind (some (x7_76 + 1)) (fun x140 =>
        lp_X1_canLay_76 F h a0 x4 x9 x15 x21 n x140)
      else
        some (.error 0)))))))))))
def f_X1_canLay (F : Nat) (h : e_H) (a0 : Nat) (a1 : Int32) (a2 : Int32) : Option Int32 :=
  Option.bind (some (a1 - a1 / 10 * 10)) (fun x4 =>
  Option.bind (some (a1 / 10)) (fun x9 =>
  Option.bind (some (a2 - a2 / 10 * 10)) (fun x15 =>
  Option.bind (some (a2 / 10)) (fun x21 =>
  if a1 = a2 then
    some 0
  else
    Option.bind (e_fA h a0 0 6) (fun x29 =>
    Option.bind (e_is h x29 2) (fun _ =>
    Option.bind (f_X3_isPeg h x29 x4 x9) (fun x35 =>
    if x35 = 0 then
      some 0
    else
      Option.bind (e_fA h a0 0 6) (fun x42 =>
      Option.bind (e_is h x42 2) (fun _ =>
      Option.bind (f_X3_isPeg h x42 x15 x21) (fun x49 =>
      if x49 = 0 then
        some 0
      else
        Option.bind (f_X1_common F 32 (x15 - x4) (x21 - x9)) (fun x64 =>
        if x64 = 1 then
          e_bE (
              lp_X1_canLay_76 F h a0 x4 x9 x15 x21 F 0
            : Option (Except Int32 Unit)) (fun _ =>
          some 1)
        else
          some 0)))))))))))
set_option maxHeartbeats 4000000 in
set_option maxRecDepth 100000 in
theorem ct_X1_canLay {l : Launch} {D : e_D} {B : Heap} {F : Nat} {d : Nat} {h : e_H} {a0 : Nat} {a1 : Int32} {a2 : Int32} {v : Int32} (hd : 277 ≤ d) (e : f_X1_canLay F h a0 a1 a2 = some v) : e_Run l D B d mX1_canLay [.ref a0, .int a1, .int a2] h (.ok (some (.int v)), h) := by
  refine e_start [some (.ref a0), some (.int a1), some (.int a2), none, none, none, none, none] (by decide) rfl rfl rfl (Nat.le_of_ble_eq_true rfl) (fun K hl0 hD0 hB0 hM hd0 hr => ?_)
  subst hl0 hD0 hB0 hd0
  have ho : (k_M K).1.cls = "PegBands" := by rw [hM]; rfl
  have hT : (k_M K).2.2.2.1 = some (.boolean) := by rw [hM]
  refine (show Sx K cX1_canLay 0 [some (.ref a0), some (.int a1), some (.int a2), none, none, none, none, none] [] h (f_X1_canLay F h a0 a1 a2) (fun w => w = v) from ?_) _ e rfl
  clear e
  unfold f_X1_canLay
  refine S_iload_n (dc_X1_canLay 0 rfl) rfl ?_
  refine S_bipush_ 10 (dc_X1_canLay 1 rfl) rfl ?_
  refine S_irem (dc_X1_canLay 2 rfl) (by decide) ?_
  refine Sx.nameI (fun x4 n4 => ?_)
  refine S_istore_n (L' := [some (.ref a0), some (.int a1), some (.int a2), some (.int x4), none, none, none, none]) (dc_X1_canLay 3 rfl) rfl ?_
  refine S_iload_n (dc_X1_canLay 4 rfl) rfl ?_
  refine S_bipush_ 10 (dc_X1_canLay 5 rfl) rfl ?_
  refine S_idiv (dc_X1_canLay 6 rfl) (by decide) ?_
  refine Sx.nameI (fun x9 n9 => ?_)
  refine S_istore (L' := [some (.ref a0), some (.int a1), some (.int a2), some (.int x4), some (.int x9), none, none, none]) (dc_X1_canLay 7 rfl) rfl ?_
  refine S_iload_n (dc_X1_canLay 8 rfl) rfl ?_
  refine S_bipush_ 10 (dc_X1_canLay 9 rfl) rfl ?_
  refine S_irem (dc_X1_canLay 10 rfl) (by decide) ?_
  refine Sx.nameI (fun x15 n15 => ?_)
  refine S_istore (L' := [some (.ref a0), some (.int a1), some (.int a2), some (.int x4), some (.int x9), some (.int x15), none, none]) (dc_X1_canLay 11 rfl) rfl ?_
  refine S_iload_n (dc_X1_canLay 12 rfl) rfl ?_
  refine S_bipush_ 10 (dc_X1_canLay 13 rfl) rfl ?_
  refine S_idiv (dc_X1_canLay 14 rfl) (by decide) ?_
  refine Sx.nameI (fun x21 n21 => ?_)
  refine S_istore (L' := [some (.ref a0), some (.int a1), some (.int a2), some (.int x4), some (.int x9), some (.int x15), some (.int x21), none]) (dc_X1_canLay 15 rfl) rfl ?_
  refine S_iload_n (dc_X1_canLay 16 rfl) rfl ?_
  refine S_iload_n (dc_X1_canLay 17 rfl) rfl ?_
  refine S_icmp_eq 71 (dc_X1_canLay 18 rfl) rfl (fun c25 => ?_) (fun c25 => ?_)
  · refine S_iconst_ 0 (dc_X1_canLay 40 rfl) rfl ?_
    exact S_iret (dc_X1_canLay 41 rfl) hT rfl (fun q => by cases q; exact hr)
  · refine S_aload_n (dc_X1_canLay 19 rfl) rfl ?_
    refine S_getA (dc_X1_canLay 20 rfl) ho fl_X1_63_0_6 (fun _ _ => rfl) (fun x29 e29 => ?_)
    refine S_iload_n (dc_X1_canLay 21 rfl) rfl ?_
    refine S_iload (dc_X1_canLay 22 rfl) rfl ?_
    refine Sx.ask (fun _ i35 => ?_)
    refine S_roI (d := k_d K - 1) (e_callV (b := x29) (As := [.int x4, .int x9]) (rest := []) ok_X3_isPeg rfl (Nat.le_of_ble_eq_true rfl) (dc_X1_canLay 23 rfl) ho q1067 q778 (show e_cl[2]? = some (RX3, TX3, 7) from rfl) (e_sel.of q779) (e_is_of i35) rfl (Nat.le_of_ble_eq_true rfl)) (by omega) (fun _ e => ct_X3_isPeg (by omega) e) (fun x35 e35 => ?_)
    refine S_if_eq 71 (dc_X1_canLay 24 rfl) rfl (fun c38 => ?_) (fun c38 => ?_)
    · refine S_iconst_ 0 (dc_X1_canLay 40 rfl) rfl ?_
      exact S_iret (dc_X1_canLay 41 rfl) hT rfl (fun q => by cases q; exact hr)
    · refine S_aload_n (dc_X1_canLay 25 rfl) rfl ?_
      refine S_getA (dc_X1_canLay 26 rfl) ho fl_X1_63_0_6 (fun _ _ => rfl) (fun x42 e42 => ?_)
      refine S_iload (dc_X1_canLay 27 rfl) rfl ?_
      refine S_iload (dc_X1_canLay 28 rfl) rfl ?_
      refine Sx.ask (fun _ i49 => ?_)
      refine S_roI (d := k_d K - 1) (e_callV (b := x42) (As := [.int x15, .int x21]) (rest := []) ok_X3_isPeg rfl (Nat.le_of_ble_eq_true rfl) (dc_X1_canLay 29 rfl) ho q1067 q778 (show e_cl[2]? = some (RX3, TX3, 7) from rfl) (e_sel.of q779) (e_is_of i49) rfl (Nat.le_of_ble_eq_true rfl)) (by omega) (fun _ e => ct_X3_isPeg (by omega) e) (fun x49 e49 => ?_)
      refine S_if_eq 71 (dc_X1_canLay 30 rfl) rfl (fun c52 => ?_) (fun c52 => ?_)
      · refine S_iconst_ 0 (dc_X1_canLay 40 rfl) rfl ?_
        exact S_iret (dc_X1_canLay 41 rfl) hT rfl (fun q => by cases q; exact hr)
      · refine S_iload (dc_X1_canLay 31 rfl) rfl ?_
        refine S_iload_n (dc_X1_canLay 32 rfl) rfl ?_
        refine S_isub (dc_X1_canLay 33 rfl) ?_
        refine S_iload (dc_X1_canLay 34 rfl) rfl ?_
        refine S_iload (dc_X1_canLay 35 rfl) rfl ?_
        refine S_isub (dc_X1_canLay 36 rfl) ?_
        refine S_roI (d := k_d K - 1) (e_callS (As := [.int (x15 - x4), .int (x21 - x9)]) (rest := []) ok_X1_common rfl (Nat.le_of_ble_eq_true rfl) (dc_X1_canLay 37 rfl) ho q1129 q1127 rfl (Nat.le_of_ble_eq_true rfl)) (by omega) (fun _ e => ct_X1_common 32 (by omega) e) (fun x64 e64 => ?_)
        refine S_iconst_ 1 (dc_X1_canLay 38 rfl) rfl ?_
        refine S_icmp_eq 73 (dc_X1_canLay 39 rfl) rfl (fun c68 => ?_) (fun c68 => ?_)
        · refine S_iconst_ 0 (dc_X1_canLay 42 rfl) rfl ?_
          refine S_istore (L' := [some (.ref a0), some (.int a1), some (.int a2), some (.int x4), some (.int x9), some (.int x15), some (.int x21), some (.int 0)]) (dc_X1_canLay 43 rfl) rfl ?_
          refine Sx.regKE0 (pc2 := 146) (L2 := [none, none, none, none, none, none, none, none]) (st2 := []) (h2 := h) ?_ (fun Q1 hK1 hE1 => ?_)
          · skip
            refine S_iconst_ 1 (dc_X1_canLay 82 rfl) rfl ?_
            exact S_iret (dc_X1_canLay 83 rfl) hT rfl (fun q => by cases q; exact hr)
          · have hK1 : Sx K cX1_canLay 146 [none, none, none, none, none, none, none, none] [] h (some (.ok ())) Q1 := hK1
            have ih1 : ∀ (n : Nat) (x7_76 : Int32), Sx K cX1_canLay 76 [some (.ref a0), none, none, some (.int x4), some (.int x9), some (.int x15), some (.int x21), some (.int x7_76)] [] h (lp_X1_canLay_76 F h a0 x4 x9 x15 x21 n x7_76) Q1 := by
              intro n
              induction n with
              | zero => intro x7_76; exact Sx.none
              | succ n ih1 =>
                intro x7_76
                rw [lp_X1_canLay_76.eq_2]
                refine S_iload (dc_X1_canLay 44 rfl) rfl ?_
                refine S_aload_n (dc_X1_canLay 45 rfl) rfl ?_
                refine S_getI (dc_X1_canLay 46 rfl) ho fl_X1_212_0_33 (fun _ _ => rfl) (fun x79 e79 => ?_)
                refine S_icmp_ge 146 (dc_X1_canLay 47 rfl) rfl (fun c82 => ?_) (fun c82 => ?_)
                · refine Sx.cut [false, true, true, false, false, false, false, false] ?_
                  exact hK1
                · refine S_iload_n (dc_X1_canLay 48 rfl) rfl ?_
                  refine S_iload (dc_X1_canLay 49 rfl) rfl ?_
                  refine S_iload (dc_X1_canLay 50 rfl) rfl ?_
                  refine S_iload (dc_X1_canLay 51 rfl) rfl ?_
                  refine S_aload_n (dc_X1_canLay 52 rfl) rfl ?_
                  refine S_getA (dc_X1_canLay 53 rfl) ho fl_X1_134_0_31 (fun _ _ => rfl) (fun x93 e93 => ?_)
                  refine S_iload (dc_X1_canLay 54 rfl) rfl ?_
                  refine S_iald (dc_X1_canLay 55 rfl) (fun x98 e98 => ?_)
                  refine S_bipush_ 10 (dc_X1_canLay 56 rfl) rfl ?_
                  refine S_irem (dc_X1_canLay 57 rfl) (by decide) ?_
                  refine S_aload_n (dc_X1_canLay 58 rfl) rfl ?_
                  refine S_getA (dc_X1_canLay 59 rfl) ho fl_X1_134_0_31 (fun _ _ => rfl) (fun x103 e103 => ?_)
                  refine S_iload (dc_X1_canLay 60 rfl) rfl ?_
                  refine S_iald (dc_X1_canLay 61 rfl) (fun x108 e108 => ?_)
                  refine S_bipush_ 10 (dc_X1_canLay 62 rfl) rfl ?_
                  refine S_idiv (dc_X1_canLay 63 rfl) (by decide) ?_
                  refine S_aload_n (dc_X1_canLay 64 rfl) rfl ?_
                  refine S_getA (dc_X1_canLay 65 rfl) ho fl_X1_137_0_32 (fun _ _ => rfl) (fun x113 e113 => ?_)
                  refine S_iload (dc_X1_canLay 66 rfl) rfl ?_
                  refine S_iald (dc_X1_canLay 67 rfl) (fun x118 e118 => ?_)
                  refine S_bipush_ 10 (dc_X1_canLay 68 rfl) rfl ?_
                  refine S_irem (dc_X1_canLay 69 rfl) (by decide) ?_
                  refine S_aload_n (dc_X1_canLay 70 rfl) rfl ?_
                  refine S_getA (dc_X1_canLay 71 rfl) ho fl_X1_137_0_32 (fun _ _ => rfl) (fun x123 e123 => ?_)
                  refine S_iload (dc_X1_canLay 72 rfl) rfl ?_
                  refine S_iald (dc_X1_canLay 73 rfl) (fun x128 e128 => ?_)
                  refine S_bipush_ 10 (dc_X1_canLay 74 rfl) rfl ?_
                  refine S_idiv (dc_X1_canLay 75 rfl) (by decide) ?_
                  refine S_roI (d := k_d K - 1) (e_callS (As := [.int x4, .int x9, .int x15, .int x21, .int (x98 - x98 / 10 * 10), .int (x108 / 10), .int (x118 - x118 / 10 * 10), .int (x128 / 10)]) (rest := []) ok_X1_meets rfl (Nat.le_of_ble_eq_true rfl) (dc_X1_canLay 76 rfl) ho q1157 q810 rfl (Nat.le_of_ble_eq_true rfl)) (by omega) (fun _ e => ct_X1_meets (by omega) e) (fun x132 e132 => ?_)
                  refine S_if_eq 140 (dc_X1_canLay 77 rfl) rfl (fun c135 => ?_) (fun c135 => ?_)
                  · refine S_iincN 1 (L' := fun x140 => [some (.ref a0), none, none, some (.int x4), some (.int x9), some (.int x15), some (.int x21), some (.int x140)]) (dc_X1_canLay 80 rfl) rfl rfl (fun _ => rfl) (fun x140 n140 => ?_)
                    refine S_goto 76 (dc_X1_canLay 81 rfl) rfl ?_
                    exact ih1 x140
                  · refine S_iconst_ 0 (dc_X1_canLay 78 rfl) rfl ?_
                    refine Sx.err hE1 ?_
                    exact S_iret (dc_X1_canLay 79 rfl) hT rfl (fun q => by cases q; exact hr)
            refine Sx.cut [true, false, false, true, true, true, true, true] ?_
            exact ih1 F 0
        · refine S_iconst_ 0 (dc_X1_canLay 40 rfl) rfl ?_
          exact S_iret (dc_X1_canLay 41 rfl) hT rfl (fun q => by cases q; exact hr)
abbrev cX1_lays : ByteArray := prog_1_method_75_code
def yX1_lays : MethodName := ⟨"PegBands", "lays", "(II)V"⟩
def tb_X1_lays : List (Nat × Instr × Nat) := [(0, .aload_n 0, 1), (1, .getfield 134, 3), (4, .aload_n 0, 1), (5, .getfield 212, 3), (8, .iload_n 1, 1), (9, .iastore, 1), (10, .aload_n 0, 1), (11, .getfield 137, 3), (14, .aload_n 0, 1), (15, .getfield 212, 3), (18, .iload_n 2, 1), (19, .iastore, 1), (20, .aload_n 0, 1), (21, .dup, 1), (22, .getfield 212, 3), (25, .iconst 1, 1), (26, .iadd, 1), (27, .putfield 212, 3), (30, .return_, 1)]
theorem tk_X1_lays : ∀ q ∈ tb_X1_lays, decode cX1_lays q.1 = .ok q.2 := by decide +kernel
theorem dc_X1_lays (k : Nat) {pc n : Nat} {i : Instr} (h : tb_X1_lays[k]? = some (pc, i, n)) : decode cX1_lays pc = .ok (i, n) := tk_X1_lays (pc, i, n) (List.mem_of_getElem? h)
abbrev mX1_lays : e_M := (yX1_lays, cX1_lays, 3, none, [])
theorem ok_X1_lays : e_mok mX1_lays 2 := ⟨q1200, q108, by decide +kernel, fun sig h => by cases h; rfl⟩
def f_X1_lays (h : e_H) (a0 : Nat) (a1 : Int32) (a2 : Int32) : Option e_H :=
  Option.bind (e_fA h a0 0 31) (fun x1 =>
  Option.bind (e_fI h a0 0 33) (fun x5 =>
  Option.bind (e_wI h x1 0 x5 a1) (fun h9 =>
  Option.bind (e_fA h9 a0 0 32) (fun x11 =>
  Option.bind (e_fI h9 a0 0 33) (fun x15 =>
  Option.bind (e_wI h9 x11 0 x15 a2) (fun h19 =>
  Option.bind (e_fI h19 a0 0 33) (fun x22 =>
  Option.bind (e_gI h19 a0 0 33 (x22 + 1)) (fun h27 =>
  some h27))))))))
set_option maxHeartbeats 4000000 in
set_option maxRecDepth 100000 in
theorem ct_X1_lays {l : Launch} {D : e_D} {B : Heap} {d : Nat} {h : e_H} {a0 : Nat} {a1 : Int32} {a2 : Int32} {h1 : e_H} (hd : 1 ≤ d) (e : f_X1_lays h a0 a1 a2 = some h1) : e_Run l D B d mX1_lays [.ref a0, .int a1, .int a2] h (.ok none, h1) := by
  refine e_start [some (.ref a0), some (.int a1), some (.int a2)] (by decide) rfl rfl rfl (Nat.le_of_ble_eq_true rfl) (fun K hl0 hD0 hB0 hM hd0 hr => ?_)
  subst hl0 hD0 hB0 hd0
  have ho : (k_M K).1.cls = "PegBands" := by rw [hM]; rfl
  have hT : (k_M K).2.2.2.1 = none := by rw [hM]
  refine (show Sx K cX1_lays 0 [some (.ref a0), some (.int a1), some (.int a2)] [] h (f_X1_lays h a0 a1 a2) (fun w => w = h1) from ?_) _ e rfl
  clear e
  unfold f_X1_lays
  refine S_aload_n (dc_X1_lays 0 rfl) rfl ?_
  refine S_getA (dc_X1_lays 1 rfl) ho fl_X1_134_0_31 (fun _ _ => rfl) (fun x1 e1 => ?_)
  refine S_aload_n (dc_X1_lays 2 rfl) rfl ?_
  refine S_getI (dc_X1_lays 3 rfl) ho fl_X1_212_0_33 (fun _ _ => rfl) (fun x5 e5 => ?_)
  refine S_iload_n (dc_X1_lays 4 rfl) rfl ?_
  refine S_iast (dc_X1_lays 5 rfl) (fun h9 e9 => ?_)
  refine S_aload_n (dc_X1_lays 6 rfl) rfl ?_
  refine S_getA (dc_X1_lays 7 rfl) ho fl_X1_137_0_32 (fun _ _ => rfl) (fun x11 e11 => ?_)
  refine S_aload_n (dc_X1_lays 8 rfl) rfl ?_
  refine S_getI (dc_X1_lays 9 rfl) ho fl_X1_212_0_33 (fun _ _ => rfl) (fun x15 e15 => ?_)
  refine S_iload_n (dc_X1_lays 10 rfl) rfl ?_
  refine S_iast (dc_X1_lays 11 rfl) (fun h19 e19 => ?_)
  refine S_aload_n (dc_X1_lays 12 rfl) rfl ?_
  refine S_dup (dc_X1_lays 13 rfl) rfl ?_
  refine S_getI (dc_X1_lays 14 rfl) ho fl_X1_212_0_33 (fun _ _ => rfl) (fun x22 e22 => ?_)
  refine S_iconst_ 1 (dc_X1_lays 15 rfl) rfl ?_
  refine S_iadd (dc_X1_lays 16 rfl) ?_
  refine S_putI (dc_X1_lays 17 rfl) ho fl_X1_212_0_33 (fun _ _ => rfl) (Or.inl rfl) rfl rfl (fun h27 e27 => ?_)
  exact S_vret (dc_X1_lays 18 rfl) hT (fun q => by cases q; exact hr)
abbrev cX1_line : ByteArray := prog_1_method_76_code
def yX1_line : MethodName := ⟨"PegBands", "line", "(II)Z"⟩
def tb_X1_line : List (Nat × Instr × Nat) := [(0, .aload_n 0, 1), (1, .invokevirtual 448, 3), (4, .ifCond .eq 28, 3), (7, .aload_n 0, 1), (8, .iload_n 1, 1), (9, .invokevirtual 235, 3), (12, .ifCond .eq 20, 3), (15, .aload_n 0, 1), (16, .iload_n 2, 1), (17, .invokevirtual 235, 3), (20, .ifCond .eq 12, 3), (23, .aload_n 0, 1), (24, .iload_n 1, 1), (25, .iload_n 2, 1), (26, .invokevirtual 451, 3), (29, .ifCond .ne 5, 3), (32, .iconst 0, 1), (33, .ireturn, 1), (34, .aload_n 0, 1), (35, .iload_n 1, 1), (36, .iload_n 2, 1), (37, .invokevirtual 454, 3), (40, .iconst 1, 1), (41, .ireturn, 1)]
theorem tk_X1_line : ∀ q ∈ tb_X1_line, decode cX1_line q.1 = .ok q.2 := by decide +kernel
theorem dc_X1_line (k : Nat) {pc n : Nat} {i : Instr} (h : tb_X1_line[k]? = some (pc, i, n)) : decode cX1_line pc = .ok (i, n) := tk_X1_line (pc, i, n) (List.mem_of_getElem? h)
abbrev mX1_line : e_M := (yX1_line, cX1_line, 3, some (.boolean), [])
theorem ok_X1_line : e_mok mX1_line 2 := ⟨q1184, q108, by decide +kernel, fun sig h => by cases h; rfl⟩
def f_X1_line (F : Nat) (h : e_H) (a0 : Nat) (a1 : Int32) (a2 : Int32) : Option (Int32 × e_H) :=
  Option.bind (e_is h a0 0) (fun _ =>
  Option.bind (f_X1_isGame h a0) (fun x1 =>
  if x1 = 0 then
    some (0, h)
  else
    Option.bind (f_X1_isPlace h a0 a1) (fun x9 =>
    if x9 = 0 then
      some (0, h)
    else
      Option.bind (f_X1_isPlace h a0 a2) (fun x17 =>
      if x17 = 0 then
        some (0, h)
      else
        Option.bind (f_X1_canLay F h a0 a1 a2) (fun x26 =>
        if x26 = 0 then
          some (0, h)
        else
          Option.bind (f_X1_lays h a0 a1 a2) (fun h37 =>
          some (1, h37)))))))
set_option maxHeartbeats 4000000 in
set_option maxRecDepth 100000 in
theorem ct_X1_line {l : Launch} {D : e_D} {B : Heap} {F : Nat} {d : Nat} {h : e_H} {a0 : Nat} {a1 : Int32} {a2 : Int32} {v : Int32} {h1 : e_H} (hd : 278 ≤ d) (e : f_X1_line F h a0 a1 a2 = some (v, h1)) : e_Run l D B d mX1_line [.ref a0, .int a1, .int a2] h (.ok (some (.int v)), h1) := by
  refine e_start [some (.ref a0), some (.int a1), some (.int a2)] (by decide) rfl rfl rfl (Nat.le_of_ble_eq_true rfl) (fun K hl0 hD0 hB0 hM hd0 hr => ?_)
  subst hl0 hD0 hB0 hd0
  have ho : (k_M K).1.cls = "PegBands" := by rw [hM]; rfl
  have hT : (k_M K).2.2.2.1 = some (.boolean) := by rw [hM]
  refine (show Sx K cX1_line 0 [some (.ref a0), some (.int a1), some (.int a2)] [] h (f_X1_line F h a0 a1 a2) (fun w => w = (v, h1)) from ?_) _ e rfl
  clear e
  unfold f_X1_line
  refine S_aload_n (dc_X1_line 0 rfl) rfl ?_
  refine Sx.ask (fun _ i1 => ?_)
  refine S_roI (d := k_d K - 1) (e_callV (b := a0) (As := []) (rest := []) ok_X1_isGame rfl (Nat.le_of_ble_eq_true rfl) (dc_X1_line 1 rfl) ho q1185 q1187 (show e_cl[0]? = some (RX1, TX1, 37) from rfl) (e_sel.of qs28) (e_is_of i1) rfl (Nat.le_of_ble_eq_true rfl)) (by omega) (fun _ e => ct_X1_isGame (by omega) e) (fun x1 e1 => ?_)
  refine S_if_eq 32 (dc_X1_line 2 rfl) rfl (fun c4 => ?_) (fun c4 => ?_)
  · refine S_iconst_ 0 (dc_X1_line 16 rfl) rfl ?_
    exact S_iret (dc_X1_line 17 rfl) hT rfl (e_rqI hr)
  · refine S_aload_n (dc_X1_line 3 rfl) rfl ?_
    refine S_iload_n (dc_X1_line 4 rfl) rfl ?_
    refine S_roI (d := k_d K - 1) (e_callV (b := a0) (As := [.int a1]) (rest := []) ok_X1_isPlace rfl (Nat.le_of_ble_eq_true rfl) (dc_X1_line 5 rfl) ho q846 q848 (show e_cl[0]? = some (RX1, TX1, 37) from rfl) (e_sel.of qs5) (e_is_of i1) rfl (Nat.le_of_ble_eq_true rfl)) (by omega) (fun _ e => ct_X1_isPlace (by omega) e) (fun x9 e9 => ?_)
    refine S_if_eq 32 (dc_X1_line 6 rfl) rfl (fun c12 => ?_) (fun c12 => ?_)
    · refine S_iconst_ 0 (dc_X1_line 16 rfl) rfl ?_
      exact S_iret (dc_X1_line 17 rfl) hT rfl (e_rqI hr)
    · refine S_aload_n (dc_X1_line 7 rfl) rfl ?_
      refine S_iload_n (dc_X1_line 8 rfl) rfl ?_
      refine S_roI (d := k_d K - 1) (e_callV (b := a0) (As := [.int a2]) (rest := []) ok_X1_isPlace rfl (Nat.le_of_ble_eq_true rfl) (dc_X1_line 9 rfl) ho q846 q848 (show e_cl[0]? = some (RX1, TX1, 37) from rfl) (e_sel.of qs5) (e_is_of i1) rfl (Nat.le_of_ble_eq_true rfl)) (by omega) (fun _ e => ct_X1_isPlace (by omega) e) (fun x17 e17 => ?_)
      refine S_if_eq 32 (dc_X1_line 10 rfl) rfl (fun c20 => ?_) (fun c20 => ?_)
      · refine S_iconst_ 0 (dc_X1_line 16 rfl) rfl ?_
        exact S_iret (dc_X1_line 17 rfl) hT rfl (e_rqI hr)
      · refine S_aload_n (dc_X1_line 11 rfl) rfl ?_
        refine S_iload_n (dc_X1_line 12 rfl) rfl ?_
        refine S_iload_n (dc_X1_line 13 rfl) rfl ?_
        refine S_roI (d := k_d K - 1) (e_callV (b := a0) (As := [.int a1, .int a2]) (rest := []) ok_X1_canLay rfl (Nat.le_of_ble_eq_true rfl) (dc_X1_line 14 rfl) ho q1193 q1195 (show e_cl[0]? = some (RX1, TX1, 37) from rfl) (e_sel.of qs29) (e_is_of i1) rfl (Nat.le_of_ble_eq_true rfl)) (by omega) (fun _ e => ct_X1_canLay (by omega) e) (fun x26 e26 => ?_)
        refine S_if_ne 34 (dc_X1_line 15 rfl) rfl (fun c29 => ?_) (fun c29 => ?_)
        · refine S_aload_n (dc_X1_line 18 rfl) rfl ?_
          refine S_iload_n (dc_X1_line 19 rfl) rfl ?_
          refine S_iload_n (dc_X1_line 20 rfl) rfl ?_
          refine S_rwV (d := k_d K - 1) (e_callV (b := a0) (As := [.int a1, .int a2]) (rest := []) ok_X1_lays rfl (Nat.le_of_ble_eq_true rfl) (dc_X1_line 21 rfl) ho q1197 q1199 (show e_cl[0]? = some (RX1, TX1, 37) from rfl) (e_sel.of qs30) (e_is_of i1) rfl (Nat.le_of_ble_eq_true rfl)) (by omega) (fun _ e => ct_X1_lays (by omega) e) (fun h37 e37 => ?_)
          refine S_iconst_ 1 (dc_X1_line 22 rfl) rfl ?_
          exact S_iret (dc_X1_line 23 rfl) hT rfl (e_rqI hr)
        · refine S_iconst_ 0 (dc_X1_line 16 rfl) rfl ?_
          exact S_iret (dc_X1_line 17 rfl) hT rfl (e_rqI hr)
abbrev cX1_lines : ByteArray := prog_1_method_77_code
def yX1_lines : MethodName := ⟨"PegBands", "lines", "(I)I"⟩
def tb_X1_lines : List (Nat × Instr × Nat) := [(0, .aload_n 0, 1), (1, .invokevirtual 448, 3), (4, .ifCond .eq 8, 3), (7, .iload_n 1, 1), (8, .iconst (-1), 1), (9, .if_icmp .ge 5, 3), (12, .iconst (-1), 1), (13, .ireturn, 1), (14, .iconst 0, 1), (15, .istore_n 2, 1), (16, .bipush 10, 2), (18, .aload_n 0, 1), (19, .getfield 63, 3), (22, .getfield 392, 3), (25, .imul, 1), (26, .istore_n 3, 1), (27, .iconst 0, 1), (28, .istore 4, 2), (30, .iload 4, 2), (32, .iload_n 3, 1), (33, .if_icmp .ge 58, 3), (36, .iload 4, 2), (38, .iconst 1, 1), (39, .iadd, 1), (40, .istore 5, 2), (42, .iload 5, 2), (44, .iload_n 3, 1), (45, .if_icmp .ge 40, 3), (48, .aload_n 0, 1), (49, .iload 4, 2), (51, .iload 5, 2), (53, .invokevirtual 451, 3), (56, .ifCond .ne 6, 3), (59, .goto 20, 3), (62, .iload_n 2, 1), (63, .iload_n 1, 1), (64, .if_icmp .ne 12, 3), (67, .bipush 100, 2), (69, .iload 4, 2), (71, .imul, 1), (72, .iload 5, 2), (74, .iadd, 1), (75, .ireturn, 1), (76, .iinc 2 1, 3), (79, .iinc 5 1, 3), (82, .goto (-40), 3), (85, .iinc 4 1, 3), (88, .goto (-58), 3), (91, .iload_n 1, 1), (92, .iconst (-1), 1), (93, .if_icmp .ne 7, 3), (96, .iload_n 2, 1), (97, .goto 4, 3), (100, .iconst (-1), 1), (101, .ireturn, 1)]
theorem tk_X1_lines : ∀ q ∈ tb_X1_lines, decode cX1_lines q.1 = .ok q.2 := by decide +kernel
theorem dc_X1_lines (k : Nat) {pc n : Nat} {i : Instr} (h : tb_X1_lines[k]? = some (pc, i, n)) : decode cX1_lines pc = .ok (i, n) := tk_X1_lines (pc, i, n) (List.mem_of_getElem? h)
abbrev mX1_lines : e_M := (yX1_lines, cX1_lines, 6, some (.int), [])
theorem ok_X1_lines : e_mok mX1_lines 1 := ⟨q1204, q108, by decide +kernel, fun sig h => by cases h; rfl⟩
def lp_X1_lines_42 (F : Nat) (h : e_H) (a0 : Nat) (a1 : Int32) (x26 : Int32) (x4_30 : Int32) : Nat → Int32 → Int32 → Option (Except (Except Int32 Int32) Int32)
  | 0, _, _ => none
  | n + 1, x2_42, x5_42 =>
    if x26 ≤ x5_42 then
      some (.ok x2_42)
    else
      Option.bind (f_X1_canLay F h a0 x4_30 x5_42) (fun x53 =>
      e_bE (
          if x53 = 0 then
            some (.ok x2_42)
          else
            if x2_42 = a1 then
              some (.error (.error (.error ((100 * x4_30) + x5_42))))
            else
              Option.bind (some (x2_42 + 1)) (fun x76 =>
              some (.ok x76))
        : Option (Except (Except (Except Int32 Int32) Int32) Int32)) (fun x2_79_3 =>
      Option.bind (some (x5_42 + 1)) (fun x79 =>
      lp_X1_lines_42 F h a0 a1 x26 x4_30 n x2_79_3 x79)))
def lp_X1_lines_30 (F : Nat) (h : e_H) (a0 : Nat) (a1 : Int32) (x26 : Int32) : Nat → Int32 → Int32 → Option (Except Int32 Int32)
  | 0, _, _ => none
  | n + 1, x2_30, x4_30 =>
    if x26 ≤ x4_30 then
      some (.ok x2_30)
    else
      Option.bind (some (x4_30 + 1)) (fun x40 =>
      e_bE (
          lp_X1_lines_42 F h a0 a1 x26 x4_30 F x2_30 x40
        : Option (Except (Except Int32 Int32) Int32)) (fun x2_85_2 =>
      Option.bind (some (x4_30 + 1)) (fun x85 =>
      lp_X1_lines_30 F h a0 a1 x26 n x2_85_2 x85)))
def f_X1_lines (F : Nat) (h : e_H) (a0 : Nat) (a1 : Int32) : Option Int32 :=
  Option.bind (e_is h a0 0) (fun _ =>
  Option.bind (f_X1_isGame h a0) (fun x1 =>
  if x1 = 0 then
    some (-1)
  else
    if (-1) ≤ a1 then
      Option.bind (e_fA h a0 0 6) (fun x19 =>
      Option.bind (e_fI h x19 2 3) (fun x22 =>
      Option.bind (some (10 * x22)) (fun x26 =>
      e_bE (
          lp_X1_lines_30 F h a0 a1 x26 F 0 0
        : Option (Except Int32 Int32)) (fun x2_91_1 =>
      if a1 = (-1) then
        some x2_91_1
      else
        some (-1)))))
    else
      some (-1)))
set_option maxHeartbeats 4000000 in
set_option maxRecDepth 100000 in
theorem ct_X1_lines {l : Launch} {D : e_D} {B : Heap} {F : Nat} {d : Nat} {h : e_H} {a0 : Nat} {a1 : Int32} {v : Int32} (hd : 278 ≤ d) (e : f_X1_lines F h a0 a1 = some v) : e_Run l D B d mX1_lines [.ref a0, .int a1] h (.ok (some (.int v)), h) := by
  refine e_start [some (.ref a0), some (.int a1), none, none, none, none] (by decide) rfl rfl rfl (Nat.le_of_ble_eq_true rfl) (fun K hl0 hD0 hB0 hM hd0 hr => ?_)
  subst hl0 hD0 hB0 hd0
  have ho : (k_M K).1.cls = "PegBands" := by rw [hM]; rfl
  have hT : (k_M K).2.2.2.1 = some (.int) := by rw [hM]
  refine (show Sx K cX1_lines 0 [some (.ref a0), some (.int a1), none, none, none, none] [] h (f_X1_lines F h a0 a1) (fun w => w = v) from ?_) _ e rfl
  clear e
  unfold f_X1_lines
  refine S_aload_n (dc_X1_lines 0 rfl) rfl ?_
  refine Sx.ask (fun _ i1 => ?_)
  refine S_roI (d := k_d K - 1) (e_callV (b := a0) (As := []) (rest := []) ok_X1_isGame rfl (Nat.le_of_ble_eq_true rfl) (dc_X1_lines 1 rfl) ho q1185 q1187 (show e_cl[0]? = some (RX1, TX1, 37) from rfl) (e_sel.of qs28) (e_is_of i1) rfl (Nat.le_of_ble_eq_true rfl)) (by omega) (fun _ e => ct_X1_isGame (by omega) e) (fun x1 e1 => ?_)
  refine S_if_eq 12 (dc_X1_lines 2 rfl) rfl (fun c4 => ?_) (fun c4 => ?_)
  · refine S_iconst_ (-1) (dc_X1_lines 6 rfl) rfl ?_
    exact S_iret (dc_X1_lines 7 rfl) hT rfl (fun q => by cases q; exact hr)
  · refine S_iload_n (dc_X1_lines 3 rfl) rfl ?_
    refine S_iconst_ (-1) (dc_X1_lines 4 rfl) rfl ?_
    refine S_icmp_ge 14 (dc_X1_lines 5 rfl) rfl (fun c9 => ?_) (fun c9 => ?_)
    · refine S_iconst_ 0 (dc_X1_lines 8 rfl) rfl ?_
      refine S_istore_n (L' := [some (.ref a0), some (.int a1), some (.int 0), none, none, none]) (dc_X1_lines 9 rfl) rfl ?_
      refine S_bipush_ 10 (dc_X1_lines 10 rfl) rfl ?_
      refine S_aload_n (dc_X1_lines 11 rfl) rfl ?_
      refine S_getA (dc_X1_lines 12 rfl) ho fl_X1_63_0_6 (fun _ _ => rfl) (fun x19 e19 => ?_)
      refine S_getI (dc_X1_lines 13 rfl) ho fl_X1_392_2_3 (fun _ _ => rfl) (fun x22 e22 => ?_)
      refine S_imul (dc_X1_lines 14 rfl) ?_
      refine Sx.nameI (fun x26 n26 => ?_)
      refine S_istore_n (L' := [some (.ref a0), some (.int a1), some (.int 0), some (.int x26), none, none]) (dc_X1_lines 15 rfl) rfl ?_
      refine S_iconst_ 0 (dc_X1_lines 16 rfl) rfl ?_
      refine S_istore (L' := [some (.ref a0), some (.int a1), some (.int 0), some (.int x26), some (.int 0), none]) (dc_X1_lines 17 rfl) rfl ?_
      refine Sx.regKE1 (pc2 := 91) (L2 := fun (x2_91_1 : Int32) => [none, some (.int a1), some (.int x2_91_1), none, none, none]) (st2 := fun (x2_91_1 : Int32) => []) (h2 := fun (x2_91_1 : Int32) => h) ?_ (fun Q1 hK1 hE1 => ?_)
      · intro x2_91_1
        show Sx K cX1_lines 91 [none, some (.int a1), some (.int x2_91_1), none, none, none] [] h _ _
        refine S_iload_n (dc_X1_lines 48 rfl) rfl ?_
        refine S_iconst_ (-1) (dc_X1_lines 49 rfl) rfl ?_
        refine S_icmp_ne 100 (dc_X1_lines 50 rfl) rfl (fun c93 => ?_) (fun c93 => ?_)
        · refine S_iconst_ (-1) (dc_X1_lines 53 rfl) rfl ?_
          exact S_iret (dc_X1_lines 54 rfl) hT rfl (fun q => by cases q; exact hr)
        · refine S_iload_n (dc_X1_lines 51 rfl) rfl ?_
          refine S_goto 101 (dc_X1_lines 52 rfl) rfl ?_
          exact S_iret (dc_X1_lines 54 rfl) hT rfl (fun q => by cases q; exact hr)
      · have hK1 : ∀ (x2_91_1 : Int32), Sx K cX1_lines 91 [none, some (.int a1), some (.int x2_91_1), none, none, none] [] h (some (.ok x2_91_1)) Q1 := hK1
        have ih1 : ∀ (n : Nat) (x2_30 : Int32) (x4_30 : Int32), Sx K cX1_lines 30 [some (.ref a0), some (.int a1), some (.int x2_30), some (.int x26), some (.int x4_30), none] [] h (lp_X1_lines_30 F h a0 a1 x26 n x2_30 x4_30) Q1 := by
          intro n
          induction n with
          | zero => intro x2_30 x4_30; exact Sx.none
          | succ n ih1 =>
            intro x2_30 x4_30
            rw [lp_X1_lines_30.eq_2]
            refine S_iload (dc_X1_lines 18 rfl) rfl ?_
            refine S_iload_n (dc_X1_lines 19 rfl) rfl ?_
            refine S_icmp_ge 91 (dc_X1_lines 20 rfl) rfl (fun c33 => ?_) (fun c33 => ?_)
            · refine Sx.cut [false, true, true, false, false, true] ?_
              exact hK1 x2_30
            · refine S_iload (dc_X1_lines 21 rfl) rfl ?_
              refine S_iconst_ 1 (dc_X1_lines 22 rfl) rfl ?_
              refine S_iadd (dc_X1_lines 23 rfl) ?_
              refine Sx.nameI (fun x40 n40 => ?_)
              refine S_istore (L' := [some (.ref a0), some (.int a1), some (.int x2_30), some (.int x26), some (.int x4_30), some (.int x40)]) (dc_X1_lines 24 rfl) rfl ?_
              refine Sx.regKE1 (pc2 := 85) (L2 := fun (x2_85_2 : Int32) => [some (.ref a0), some (.int a1), some (.int x2_85_2), some (.int x26), some (.int x4_30), none]) (st2 := fun (x2_85_2 : Int32) => []) (h2 := fun (x2_85_2 : Int32) => h) ?_ (fun Q2 hK2 hE2 => ?_)
              · intro x2_85_2
                show Sx K cX1_lines 85 [some (.ref a0), some (.int a1), some (.int x2_85_2), some (.int x26), some (.int x4_30), none] [] h _ _
                refine S_iincN 1 (L' := fun x85 => [some (.ref a0), some (.int a1), some (.int x2_85_2), some (.int x26), some (.int x85), none]) (dc_X1_lines 46 rfl) rfl rfl (fun _ => rfl) (fun x85 n85 => ?_)
                refine S_goto 30 (dc_X1_lines 47 rfl) rfl ?_
                exact ih1 x2_85_2 x85
              · have hK2 : ∀ (x2_85_2 : Int32), Sx K cX1_lines 85 [some (.ref a0), some (.int a1), some (.int x2_85_2), some (.int x26), some (.int x4_30), none] [] h (some (.ok x2_85_2)) Q2 := hK2
                have ih2 : ∀ (n : Nat) (x2_42 : Int32) (x5_42 : Int32), Sx K cX1_lines 42 [some (.ref a0), some (.int a1), some (.int x2_42), some (.int x26), some (.int x4_30), some (.int x5_42)] [] h (lp_X1_lines_42 F h a0 a1 x26 x4_30 n x2_42 x5_42) Q2 := by
                  intro n
                  induction n with
                  | zero => intro x2_42 x5_42; exact Sx.none
                  | succ n ih2 =>
                    intro x2_42 x5_42
                    rw [lp_X1_lines_42.eq_2]
                    refine S_iload (dc_X1_lines 25 rfl) rfl ?_
                    refine S_iload_n (dc_X1_lines 26 rfl) rfl ?_
                    refine S_icmp_ge 85 (dc_X1_lines 27 rfl) rfl (fun c45 => ?_) (fun c45 => ?_)
                    · refine Sx.cut [true, true, true, true, true, false] ?_
                      exact hK2 x2_42
                    · refine S_aload_n (dc_X1_lines 28 rfl) rfl ?_
                      refine S_iload (dc_X1_lines 29 rfl) rfl ?_
                      refine S_iload (dc_X1_lines 30 rfl) rfl ?_
                      refine S_roI (d := k_d K - 1) (e_callV (b := a0) (As := [.int x4_30, .int x5_42]) (rest := []) ok_X1_canLay rfl (Nat.le_of_ble_eq_true rfl) (dc_X1_lines 31 rfl) ho q1193 q1195 (show e_cl[0]? = some (RX1, TX1, 37) from rfl) (e_sel.of qs29) (e_is_of i1) rfl (Nat.le_of_ble_eq_true rfl)) (by omega) (fun _ e => ct_X1_canLay (by omega) e) (fun x53 e53 => ?_)
                      refine Sx.regKE1 (pc2 := 79) (L2 := fun (x2_79_3 : Int32) => [some (.ref a0), some (.int a1), some (.int x2_79_3), some (.int x26), some (.int x4_30), some (.int x5_42)]) (st2 := fun (x2_79_3 : Int32) => []) (h2 := fun (x2_79_3 : Int32) => h) ?_ (fun Q3 hK3 hE3 => ?_)
                      · intro x2_79_3
                        show Sx K cX1_lines 79 [some (.ref a0), some (.int a1), some (.int x2_79_3), some (.int x26), some (.int x4_30), some (.int x5_42)] [] h _ _
                        refine S_iincN 1 (L' := fun x79 => [some (.ref a0), some (.int a1), some (.int x2_79_3), some (.int x26), some (.int x4_30), some (.int x79)]) (dc_X1_lines 44 rfl) rfl rfl (fun _ => rfl) (fun x79 n79 => ?_)
                        refine S_goto 42 (dc_X1_lines 45 rfl) rfl ?_
                        exact ih2 x2_79_3 x79
                      · have hK3 : ∀ (x2_79_3 : Int32), Sx K cX1_lines 79 [some (.ref a0), some (.int a1), some (.int x2_79_3), some (.int x26), some (.int x4_30), some (.int x5_42)] [] h (some (.ok x2_79_3)) Q3 := hK3
                        refine S_if_ne 62 (dc_X1_lines 32 rfl) rfl (fun c56 => ?_) (fun c56 => ?_)
                        · refine S_iload_n (dc_X1_lines 34 rfl) rfl ?_
                          refine S_iload_n (dc_X1_lines 35 rfl) rfl ?_
                          refine S_icmp_ne 76 (dc_X1_lines 36 rfl) rfl (fun c64 => ?_) (fun c64 => ?_)
                          · refine S_iincN 1 (L' := fun x76 => [some (.ref a0), some (.int a1), some (.int x76), some (.int x26), some (.int x4_30), some (.int x5_42)]) (dc_X1_lines 43 rfl) rfl rfl (fun _ => rfl) (fun x76 n76 => ?_)
                            exact hK3 x76
                          · refine S_bipush_ 100 (dc_X1_lines 37 rfl) rfl ?_
                            refine S_iload (dc_X1_lines 38 rfl) rfl ?_
                            refine S_imul (dc_X1_lines 39 rfl) ?_
                            refine S_iload (dc_X1_lines 40 rfl) rfl ?_
                            refine S_iadd (dc_X1_lines 41 rfl) ?_
                            refine Sx.err hE3 ?_
                            refine Sx.err hE2 ?_
                            refine Sx.err hE1 ?_
                            exact S_iret (dc_X1_lines 42 rfl) hT rfl (fun q => by cases q; exact hr)
                        · refine S_goto 79 (dc_X1_lines 33 rfl) rfl ?_
                          exact hK3 x2_42
                exact ih2 F x2_30 x40
        exact ih1 F 0 0
    · refine S_iconst_ (-1) (dc_X1_lines 6 rfl) rfl ?_
      exact S_iret (dc_X1_lines 7 rfl) hT rfl (fun q => by cases q; exact hr)
abbrev cX1_winning : ByteArray := prog_1_method_78_code
def yX1_winning : MethodName := ⟨"PegBands", "winning", "()I"⟩
def tb_X1_winning : List (Nat × Instr × Nat) := [(0, .bipush 10, 2), (2, .aload_n 0, 1), (3, .getfield 63, 3), (6, .getfield 392, 3), (9, .imul, 1), (10, .istore_n 1, 1), (11, .iconst 0, 1), (12, .istore_n 2, 1), (13, .iload_n 2, 1), (14, .iload_n 1, 1), (15, .if_icmp .ge 79, 3), (18, .iload_n 2, 1), (19, .iconst 1, 1), (20, .iadd, 1), (21, .istore_n 3, 1), (22, .iload_n 3, 1), (23, .iload_n 1, 1), (24, .if_icmp .ge 64, 3), (27, .aload_n 0, 1), (28, .iload_n 2, 1), (29, .iload_n 3, 1), (30, .invokevirtual 451, 3), (33, .ifCond .ne 6, 3), (36, .goto 46, 3), (39, .aload_n 0, 1), (40, .iload_n 2, 1), (41, .iload_n 3, 1), (42, .invokevirtual 454, 3), (45, .aload_n 0, 1), (46, .invokevirtual 457, 3), (49, .iconst (-1), 1), (50, .if_icmp .ne 7, 3), (53, .iconst 1, 1), (54, .goto 4, 3), (57, .iconst 0, 1), (58, .istore 4, 2), (60, .aload_n 0, 1), (61, .dup, 1), (62, .getfield 212, 3), (65, .iconst 1, 1), (66, .isub, 1), (67, .putfield 212, 3), (70, .iload 4, 2), (72, .ifCond .eq 10, 3), (75, .bipush 100, 2), (77, .iload_n 2, 1), (78, .imul, 1), (79, .iload_n 3, 1), (80, .iadd, 1), (81, .ireturn, 1), (82, .iinc 3 1, 3), (85, .goto (-63), 3), (88, .iinc 2 1, 3), (91, .goto (-78), 3), (94, .iconst (-1), 1), (95, .ireturn, 1)]
theorem tk_X1_winning : ∀ q ∈ tb_X1_winning, decode cX1_winning q.1 = .ok q.2 := by decide +kernel
theorem dc_X1_winning (k : Nat) {pc n : Nat} {i : Instr} (h : tb_X1_winning[k]? = some (pc, i, n)) : decode cX1_winning pc = .ok (i, n) := tk_X1_winning (pc, i, n) (List.mem_of_getElem? h)
abbrev mX1_winning : e_M := (yX1_winning, cX1_winning, 5, some (.int), [])
theorem ok_X1_winning : e_mok mX1_winning 0 := ⟨q1212, q108, by decide +kernel, fun sig h => by cases h; rfl⟩
def lp_X1_winning_22 (F : Nat) (S : e_H → Nat → Option (Int32 × e_H)) (a0 : Nat) (x10 : Int32) (x2_13 : Int32) : Nat → Int32 → e_H → Option (Except (Except (Int32 × e_H) e_H) e_H)
  | 0, _, _ => none
  | n + 1, x3_22, h_22 =>
    if x10 ≤ x3_22 then
      some (.ok h_22)
    else
      Option.bind (e_is h_22 a0 0) (fun _ =>
      Option.bind (f_X1_canLay F h_22 a0 x2_13 x3_22) (fun x30 =>
      e_bE (
          if x30 = 0 then
            some (.ok h_22)
          else
            Option.bind (f_X1_lays h_22 a0 x2_13 x3_22) (fun h42 =>
            Option.bind (e_is h42 a0 0) (fun _ =>
            e_b2 (S h42 a0) (fun x46 h46 =>
            Option.bind (
                if x46 = (-1) then
                  some 1
                else
                  some 0
              : Option (Int32)) (fun s58_4 =>
            Option.bind (e_fI h46 a0 0 33) (fun x62 =>
            Option.bind (e_gI h46 a0 0 33 (x62 - 1)) (fun h67 =>
            if s58_4 = 0 then
              some (.ok h67)
            else
              some (.error (.error (.error (((100 * x2_13) + x3_22), h67))))))))))
        : Option (Except (Except (Except (Int32 × e_H) e_H) e_H) e_H)) (fun h82_3 =>
      Option.bind (some (x3_22 + 1)) (fun x82 =>
      lp_X1_winning_22 F S a0 x10 x2_13 n x82 h82_3))))
def lp_X1_winning_13 (F : Nat) (S : e_H → Nat → Option (Int32 × e_H)) (a0 : Nat) (x10 : Int32) : Nat → Int32 → e_H → Option (Except (Int32 × e_H) e_H)
  | 0, _, _ => none
  | n + 1, x2_13, h_13 =>
    if x10 ≤ x2_13 then
      some (.ok h_13)
    else
      Option.bind (some (x2_13 + 1)) (fun x21 =>
      e_bE (
          lp_X1_winning_22 F S a0 x10 x2_13 F x21 h_13
        : Option (Except (Except (Int32 × e_H) e_H) e_H)) (fun h88_2 =>
      Option.bind (some (x2_13 + 1)) (fun x88 =>
      lp_X1_winning_13 F S a0 x10 n x88 h88_2)))
def fb_X1_winning (F : Nat) (S : e_H → Nat → Option (Int32 × e_H)) (h : e_H) (a0 : Nat) : Option (Int32 × e_H) :=
  Option.bind (e_fA h a0 0 6) (fun x3 =>
  Option.bind (e_fI h x3 2 3) (fun x6 =>
  Option.bind (some (10 * x6)) (fun x10 =>
  e_bE (
      lp_X1_winning_13 F S a0 x10 F 0 h
    : Option (Except (Int32 × e_H) e_H)) (fun h94_1 =>
  some ((-1), h94_1)))))
set_option maxHeartbeats 4000000 in
set_option maxRecDepth 100000 in
theorem cb_X1_winning {l : Launch} {D : e_D} {B : Heap} {F : Nat} {S : e_H → Nat → Option (Int32 × e_H)} {dS : Nat} {d : Nat} {h : e_H} {a0 : Nat} {v : Int32} {h1 : e_H} (hS : ∀ {h : e_H} {a0 : Nat} {v : Int32} {h1 : e_H} , S h a0 = some (v, h1) → e_Run l D B dS mX1_winning [.ref a0] h (.ok (some (.int v)), h1)) (hd : 278 ≤ d) (hd2 : dS + 1 ≤ d) (e : fb_X1_winning F S h a0 = some (v, h1)) : e_Run l D B d mX1_winning [.ref a0] h (.ok (some (.int v)), h1) := by
  refine e_start [some (.ref a0), none, none, none, none] (by decide) rfl rfl rfl (Nat.le_of_ble_eq_true rfl) (fun K hl0 hD0 hB0 hM hd0 hr => ?_)
  subst hl0 hD0 hB0 hd0
  have ho : (k_M K).1.cls = "PegBands" := by rw [hM]; rfl
  have hT : (k_M K).2.2.2.1 = some (.int) := by rw [hM]
  refine (show Sx K cX1_winning 0 [some (.ref a0), none, none, none, none] [] h (fb_X1_winning F S h a0) (fun w => w = (v, h1)) from ?_) _ e rfl
  clear e
  unfold fb_X1_winning
  refine S_bipush_ 10 (dc_X1_winning 0 rfl) rfl ?_
  refine S_aload_n (dc_X1_winning 1 rfl) rfl ?_
  refine S_getA (dc_X1_winning 2 rfl) ho fl_X1_63_0_6 (fun _ _ => rfl) (fun x3 e3 => ?_)
  refine S_getI (dc_X1_winning 3 rfl) ho fl_X1_392_2_3 (fun _ _ => rfl) (fun x6 e6 => ?_)
  refine S_imul (dc_X1_winning 4 rfl) ?_
  refine Sx.nameI (fun x10 n10 => ?_)
  refine S_istore_n (L' := [some (.ref a0), some (.int x10), none, none, none]) (dc_X1_winning 5 rfl) rfl ?_
  refine S_iconst_ 0 (dc_X1_winning 6 rfl) rfl ?_
  refine S_istore_n (L' := [some (.ref a0), some (.int x10), some (.int 0), none, none]) (dc_X1_winning 7 rfl) rfl ?_
  refine Sx.regKE1 (pc2 := 94) (L2 := fun (h94_1 : e_H) => [none, none, none, none, none]) (st2 := fun (h94_1 : e_H) => []) (h2 := fun (h94_1 : e_H) => h94_1) ?_ (fun Q1 hK1 hE1 => ?_)
  · intro h94_1
    show Sx K cX1_winning 94 [none, none, none, none, none] [] h94_1 _ _
    refine S_iconst_ (-1) (dc_X1_winning 54 rfl) rfl ?_
    exact S_iret (dc_X1_winning 55 rfl) hT rfl (e_rqI hr)
  · have hK1 : ∀ (h94_1 : e_H), Sx K cX1_winning 94 [none, none, none, none, none] [] h94_1 (some (.ok h94_1)) Q1 := hK1
    have ih1 : ∀ (n : Nat) (x2_13 : Int32) (h_13 : e_H), Sx K cX1_winning 13 [some (.ref a0), some (.int x10), some (.int x2_13), none, none] [] h_13 (lp_X1_winning_13 F S a0 x10 n x2_13 h_13) Q1 := by
      intro n
      induction n with
      | zero => intro x2_13 h_13; exact Sx.none
      | succ n ih1 =>
        intro x2_13 h_13
        rw [lp_X1_winning_13.eq_2]
        refine S_iload_n (dc_X1_winning 8 rfl) rfl ?_
        refine S_iload_n (dc_X1_winning 9 rfl) rfl ?_
        refine S_icmp_ge 94 (dc_X1_winning 10 rfl) rfl (fun c15 => ?_) (fun c15 => ?_)
        · refine Sx.cut [false, false, false, true, true] ?_
          exact hK1 h_13
        · refine S_iload_n (dc_X1_winning 11 rfl) rfl ?_
          refine S_iconst_ 1 (dc_X1_winning 12 rfl) rfl ?_
          refine S_iadd (dc_X1_winning 13 rfl) ?_
          refine Sx.nameI (fun x21 n21 => ?_)
          refine S_istore_n (L' := [some (.ref a0), some (.int x10), some (.int x2_13), some (.int x21), none]) (dc_X1_winning 14 rfl) rfl ?_
          refine Sx.regKE1 (pc2 := 88) (L2 := fun (h88_2 : e_H) => [some (.ref a0), some (.int x10), some (.int x2_13), none, none]) (st2 := fun (h88_2 : e_H) => []) (h2 := fun (h88_2 : e_H) => h88_2) ?_ (fun Q2 hK2 hE2 => ?_)
          · intro h88_2
            show Sx K cX1_winning 88 [some (.ref a0), some (.int x10), some (.int x2_13), none, none] [] h88_2 _ _
            refine S_iincN 1 (L' := fun x88 => [some (.ref a0), some (.int x10), some (.int x88), none, none]) (dc_X1_winning 52 rfl) rfl rfl (fun _ => rfl) (fun x88 n88 => ?_)
            refine S_goto 13 (dc_X1_winning 53 rfl) rfl ?_
            exact ih1 x88 h88_2
          · have hK2 : ∀ (h88_2 : e_H), Sx K cX1_winning 88 [some (.ref a0), some (.int x10), some (.int x2_13), none, none] [] h88_2 (some (.ok h88_2)) Q2 := hK2
            have ih2 : ∀ (n : Nat) (x3_22 : Int32) (h_22 : e_H), Sx K cX1_winning 22 [some (.ref a0), some (.int x10), some (.int x2_13), some (.int x3_22), none] [] h_22 (lp_X1_winning_22 F S a0 x10 x2_13 n x3_22 h_22) Q2 := by
              intro n
              induction n with
              | zero => intro x3_22 h_22; exact Sx.none
              | succ n ih2 =>
                intro x3_22 h_22
                rw [lp_X1_winning_22.eq_2]
                refine S_iload_n (dc_X1_winning 15 rfl) rfl ?_
                refine S_iload_n (dc_X1_winning 16 rfl) rfl ?_
                refine S_icmp_ge 88 (dc_X1_winning 17 rfl) rfl (fun c24 => ?_) (fun c24 => ?_)
                · refine Sx.cut [true, true, true, false, true] ?_
                  exact hK2 h_22
                · refine S_aload_n (dc_X1_winning 18 rfl) rfl ?_
                  refine S_iload_n (dc_X1_winning 19 rfl) rfl ?_
                  refine S_iload_n (dc_X1_winning 20 rfl) rfl ?_
                  refine Sx.ask (fun _ i30 => ?_)
                  refine S_roI (d := k_d K - 1) (e_callV (b := a0) (As := [.int x2_13, .int x3_22]) (rest := []) ok_X1_canLay rfl (Nat.le_of_ble_eq_true rfl) (dc_X1_winning 21 rfl) ho q1193 q1195 (show e_cl[0]? = some (RX1, TX1, 37) from rfl) (e_sel.of qs29) (e_is_of i30) rfl (Nat.le_of_ble_eq_true rfl)) (by omega) (fun _ e => ct_X1_canLay (by omega) e) (fun x30 e30 => ?_)
                  refine Sx.regKE1 (pc2 := 82) (L2 := fun (h82_3 : e_H) => [some (.ref a0), some (.int x10), some (.int x2_13), some (.int x3_22), none]) (st2 := fun (h82_3 : e_H) => []) (h2 := fun (h82_3 : e_H) => h82_3) ?_ (fun Q3 hK3 hE3 => ?_)
                  · intro h82_3
                    show Sx K cX1_winning 82 [some (.ref a0), some (.int x10), some (.int x2_13), some (.int x3_22), none] [] h82_3 _ _
                    refine S_iincN 1 (L' := fun x82 => [some (.ref a0), some (.int x10), some (.int x2_13), some (.int x82), none]) (dc_X1_winning 50 rfl) rfl rfl (fun _ => rfl) (fun x82 n82 => ?_)
                    refine S_goto 22 (dc_X1_winning 51 rfl) rfl ?_
                    exact ih2 x82 h82_3
                  · have hK3 : ∀ (h82_3 : e_H), Sx K cX1_winning 82 [some (.ref a0), some (.int x10), some (.int x2_13), some (.int x3_22), none] [] h82_3 (some (.ok h82_3)) Q3 := hK3
                    refine S_if_ne 39 (dc_X1_winning 22 rfl) rfl (fun c33 => ?_) (fun c33 => ?_)
                    · refine S_aload_n (dc_X1_winning 24 rfl) rfl ?_
                      refine S_iload_n (dc_X1_winning 25 rfl) rfl ?_
                      refine S_iload_n (dc_X1_winning 26 rfl) rfl ?_
                      refine S_rwV (d := k_d K - 1) (e_callV (b := a0) (As := [.int x2_13, .int x3_22]) (rest := []) ok_X1_lays rfl (Nat.le_of_ble_eq_true rfl) (dc_X1_winning 27 rfl) ho q1197 q1199 (show e_cl[0]? = some (RX1, TX1, 37) from rfl) (e_sel.of qs30) (e_is_of i30) rfl (Nat.le_of_ble_eq_true rfl)) (by omega) (fun _ e => ct_X1_lays (by omega) e) (fun h42 e42 => ?_)
                      refine S_aload_n (dc_X1_winning 28 rfl) rfl ?_
                      refine Sx.ask (fun _ i46 => ?_)
                      refine S_rwI (d := dS) (e_callV (b := a0) (As := []) (rest := []) ok_X1_winning rfl (Nat.le_of_ble_eq_true rfl) (dc_X1_winning 29 rfl) ho q1209 q1211 (show e_cl[0]? = some (RX1, TX1, 37) from rfl) (e_sel.of qs31) (e_is_of i46) rfl (Nat.le_of_ble_eq_true rfl)) (by omega) (fun _ _ e => hS e) (fun x46 h46 e46 => ?_)
                      refine S_iconst_ (-1) (dc_X1_winning 30 rfl) rfl ?_
                      refine Sx.regK1 (pc2 := 58) (L2 := fun (s58_4 : Int32) => [some (.ref a0), some (.int x10), some (.int x2_13), some (.int x3_22), none]) (st2 := fun (s58_4 : Int32) => [.int s58_4]) (h2 := fun (s58_4 : Int32) => h46) ?_ (fun Q4 hK4 => ?_)
                      · intro s58_4
                        show Sx K cX1_winning 58 [some (.ref a0), some (.int x10), some (.int x2_13), some (.int x3_22), none] [.int s58_4] h46 _ _
                        refine S_istore (L' := [some (.ref a0), some (.int x10), some (.int x2_13), some (.int x3_22), some (.int s58_4)]) (dc_X1_winning 35 rfl) rfl ?_
                        refine S_aload_n (dc_X1_winning 36 rfl) rfl ?_
                        refine S_dup (dc_X1_winning 37 rfl) rfl ?_
                        refine S_getI (dc_X1_winning 38 rfl) ho fl_X1_212_0_33 (fun _ _ => rfl) (fun x62 e62 => ?_)
                        refine S_iconst_ 1 (dc_X1_winning 39 rfl) rfl ?_
                        refine S_isub (dc_X1_winning 40 rfl) ?_
                        refine S_putI (dc_X1_winning 41 rfl) ho fl_X1_212_0_33 (fun _ _ => rfl) (Or.inl rfl) rfl rfl (fun h67 e67 => ?_)
                        refine S_iload (dc_X1_winning 42 rfl) rfl ?_
                        refine S_if_eq 82 (dc_X1_winning 43 rfl) rfl (fun c72 => ?_) (fun c72 => ?_)
                        · refine Sx.cut [true, true, true, true, false] ?_
                          exact hK3 h67
                        · refine S_bipush_ 100 (dc_X1_winning 44 rfl) rfl ?_
                          refine S_iload_n (dc_X1_winning 45 rfl) rfl ?_
                          refine S_imul (dc_X1_winning 46 rfl) ?_
                          refine S_iload_n (dc_X1_winning 47 rfl) rfl ?_
                          refine S_iadd (dc_X1_winning 48 rfl) ?_
                          refine Sx.err hE3 ?_
                          refine Sx.err hE2 ?_
                          refine Sx.err hE1 ?_
                          exact S_iret (dc_X1_winning 49 rfl) hT rfl (e_rqI hr)
                      · have hK4 : ∀ (s58_4 : Int32), Sx K cX1_winning 58 [some (.ref a0), some (.int x10), some (.int x2_13), some (.int x3_22), none] [.int s58_4] h46 (some s58_4) Q4 := hK4
                        refine S_icmp_ne 57 (dc_X1_winning 31 rfl) rfl (fun c50 => ?_) (fun c50 => ?_)
                        · refine S_iconst_ 0 (dc_X1_winning 34 rfl) rfl ?_
                          exact hK4 0
                        · refine S_iconst_ 1 (dc_X1_winning 32 rfl) rfl ?_
                          refine S_goto 58 (dc_X1_winning 33 rfl) rfl ?_
                          exact hK4 1
                    · refine S_goto 82 (dc_X1_winning 23 rfl) rfl ?_
                      exact hK3 h_22
            exact ih2 F x21 h_13
    exact ih1 F 0 h
def f_X1_winning (F : Nat) : Nat → e_H → Nat → Option (Int32 × e_H)
  | 0, _, _ => none
  | n + 1, h, a0 => fb_X1_winning F (f_X1_winning F n) h a0
theorem ct_X1_winning {l : Launch} {D : e_D} {B : Heap} {F : Nat} (n : Nat) : ∀ {d : Nat} {h : e_H} {a0 : Nat} {v : Int32} {h1 : e_H} (hd : 8 * n + 288 ≤ d) (e : f_X1_winning F n h a0 = some (v, h1)), e_Run l D B d mX1_winning [.ref a0] h (.ok (some (.int v)), h1) := by
  induction n with
  | zero => intros; rename_i e; cases e
  | succ n ih => intros; rename_i hd e; exact cb_X1_winning (dS := 8 * n + 288) (fun e => ih (Nat.le_refl _) e) (by omega) (by omega) e
abbrev cX1_wins : ByteArray := prog_1_method_79_code
def yX1_wins : MethodName := ⟨"PegBands", "wins", "()I"⟩
def tb_X1_wins : List (Nat × Instr × Nat) := [(0, .aload_n 0, 1), (1, .invokevirtual 448, 3), (4, .ifCond .eq 10, 3), (7, .aload_n 0, 1), (8, .invokevirtual 457, 3), (11, .goto 5, 3), (14, .bipush (-2), 2), (16, .ireturn, 1)]
theorem tk_X1_wins : ∀ q ∈ tb_X1_wins, decode cX1_wins q.1 = .ok q.2 := by decide +kernel
theorem dc_X1_wins (k : Nat) {pc n : Nat} {i : Instr} (h : tb_X1_wins[k]? = some (pc, i, n)) : decode cX1_wins pc = .ok (i, n) := tk_X1_wins (pc, i, n) (List.mem_of_getElem? h)
abbrev mX1_wins : e_M := (yX1_wins, cX1_wins, 1, some (.int), [])
theorem ok_X1_wins : e_mok mX1_wins 0 := ⟨q1208, q108, by decide +kernel, fun sig h => by cases h; rfl⟩
def f_X1_wins (F : Nat) (h : e_H) (a0 : Nat) : Option (Int32 × e_H) :=
  Option.bind (e_is h a0 0) (fun _ =>
  Option.bind (f_X1_isGame h a0) (fun x1 =>
  if x1 = 0 then
    some ((-2), h)
  else
    e_b2 (f_X1_winning F 32 h a0) (fun x8 h8 =>
    some (x8, h8))))
set_option maxHeartbeats 4000000 in
set_option maxRecDepth 100000 in
theorem ct_X1_wins {l : Launch} {D : e_D} {B : Heap} {F : Nat} {d : Nat} {h : e_H} {a0 : Nat} {v : Int32} {h1 : e_H} (hd : 545 ≤ d) (e : f_X1_wins F h a0 = some (v, h1)) : e_Run l D B d mX1_wins [.ref a0] h (.ok (some (.int v)), h1) := by
  refine e_start [some (.ref a0)] (by decide) rfl rfl rfl (Nat.le_of_ble_eq_true rfl) (fun K hl0 hD0 hB0 hM hd0 hr => ?_)
  subst hl0 hD0 hB0 hd0
  have ho : (k_M K).1.cls = "PegBands" := by rw [hM]; rfl
  have hT : (k_M K).2.2.2.1 = some (.int) := by rw [hM]
  refine (show Sx K cX1_wins 0 [some (.ref a0)] [] h (f_X1_wins F h a0) (fun w => w = (v, h1)) from ?_) _ e rfl
  clear e
  unfold f_X1_wins
  refine S_aload_n (dc_X1_wins 0 rfl) rfl ?_
  refine Sx.ask (fun _ i1 => ?_)
  refine S_roI (d := k_d K - 1) (e_callV (b := a0) (As := []) (rest := []) ok_X1_isGame rfl (Nat.le_of_ble_eq_true rfl) (dc_X1_wins 1 rfl) ho q1185 q1187 (show e_cl[0]? = some (RX1, TX1, 37) from rfl) (e_sel.of qs28) (e_is_of i1) rfl (Nat.le_of_ble_eq_true rfl)) (by omega) (fun _ e => ct_X1_isGame (by omega) e) (fun x1 e1 => ?_)
  refine S_if_eq 14 (dc_X1_wins 2 rfl) rfl (fun c4 => ?_) (fun c4 => ?_)
  · refine S_bipush_ (-2) (dc_X1_wins 6 rfl) rfl ?_
    exact S_iret (dc_X1_wins 7 rfl) hT rfl (e_rqI hr)
  · refine S_aload_n (dc_X1_wins 3 rfl) rfl ?_
    refine S_rwI (d := k_d K - 1) (e_callV (b := a0) (As := []) (rest := []) ok_X1_winning rfl (Nat.le_of_ble_eq_true rfl) (dc_X1_wins 4 rfl) ho q1209 q1211 (show e_cl[0]? = some (RX1, TX1, 37) from rfl) (e_sel.of qs31) (e_is_of i1) rfl (Nat.le_of_ble_eq_true rfl)) (by omega) (fun _ _ e => ct_X1_winning 32 (by omega) e) (fun x8 h8 e8 => ?_)
    refine S_goto 16 (dc_X1_wins 5 rfl) rfl ?_
    exact S_iret (dc_X1_wins 7 rfl) hT rfl (e_rqI hr)
abbrev cX1_again : ByteArray := prog_1_method_80_code
def yX1_again : MethodName := ⟨"PegBands", "again", "()I"⟩
def tb_X1_again : List (Nat × Instr × Nat) := [(0, .aload_n 0, 1), (1, .getfield 212, 3), (4, .istore_n 1, 1), (5, .aload_n 0, 1), (6, .iconst 0, 1), (7, .putfield 212, 3), (10, .iload_n 1, 1), (11, .ireturn, 1)]
theorem tk_X1_again : ∀ q ∈ tb_X1_again, decode cX1_again q.1 = .ok q.2 := by decide +kernel
theorem dc_X1_again (k : Nat) {pc n : Nat} {i : Instr} (h : tb_X1_again[k]? = some (pc, i, n)) : decode cX1_again pc = .ok (i, n) := tk_X1_again (pc, i, n) (List.mem_of_getElem? h)
abbrev mX1_again : e_M := (yX1_again, cX1_again, 2, some (.int), [])
theorem ok_X1_again : e_mok mX1_again 0 := ⟨q1216, q108, by decide +kernel, fun sig h => by cases h; rfl⟩
def f_X1_again (h : e_H) (a0 : Nat) : Option (Int32 × e_H) :=
  Option.bind (e_fI h a0 0 33) (fun x1 =>
  Option.bind (e_gI h a0 0 33 0) (fun h7 =>
  some (x1, h7)))
set_option maxHeartbeats 4000000 in
set_option maxRecDepth 100000 in
theorem ct_X1_again {l : Launch} {D : e_D} {B : Heap} {d : Nat} {h : e_H} {a0 : Nat} {v : Int32} {h1 : e_H} (hd : 1 ≤ d) (e : f_X1_again h a0 = some (v, h1)) : e_Run l D B d mX1_again [.ref a0] h (.ok (some (.int v)), h1) := by
  refine e_start [some (.ref a0), none] (by decide) rfl rfl rfl (Nat.le_of_ble_eq_true rfl) (fun K hl0 hD0 hB0 hM hd0 hr => ?_)
  subst hl0 hD0 hB0 hd0
  have ho : (k_M K).1.cls = "PegBands" := by rw [hM]; rfl
  have hT : (k_M K).2.2.2.1 = some (.int) := by rw [hM]
  refine (show Sx K cX1_again 0 [some (.ref a0), none] [] h (f_X1_again h a0) (fun w => w = (v, h1)) from ?_) _ e rfl
  clear e
  unfold f_X1_again
  refine S_aload_n (dc_X1_again 0 rfl) rfl ?_
  refine S_getI (dc_X1_again 1 rfl) ho fl_X1_212_0_33 (fun _ _ => rfl) (fun x1 e1 => ?_)
  refine S_istore_n (L' := [some (.ref a0), some (.int x1)]) (dc_X1_again 2 rfl) rfl ?_
  refine S_aload_n (dc_X1_again 3 rfl) rfl ?_
  refine S_iconst_ 0 (dc_X1_again 4 rfl) rfl ?_
  refine S_putI (dc_X1_again 5 rfl) ho fl_X1_212_0_33 (fun _ _ => rfl) (Or.inl rfl) rfl rfl (fun h7 e7 => ?_)
  refine S_iload_n (dc_X1_again 6 rfl) rfl ?_
  exact S_iret (dc_X1_again 7 rfl) hT rfl (e_rqI hr)
abbrev cX9_single : ByteArray := prog_16_method_5_code
def yX9_single : MethodName := ⟨"PegBands$SentenceReader", "single", "(I)LPegBands$Cond;"⟩
abbrev mX9_single : e_M := (yX9_single, cX9_single, 10, some (.object "PegBands$Cond"), [])
theorem ok_X9_single : e_mok mX9_single 1 := ⟨q1239, q118, by decide +kernel, fun sig h => by cases h; rfl⟩
abbrev cX9_both : ByteArray := prog_16_method_4_code
def yX9_both : MethodName := ⟨"PegBands$SentenceReader", "both", "(I)LPegBands$Cond;"⟩
def tb_X9_both : List (Nat × Instr × Nat) := [(0, .aload_n 0, 1), (1, .iload_n 1, 1), (2, .invokevirtual 67, 3), (5, .astore_n 2, 1), (6, .aload_n 0, 1), (7, .ldc 70, 2), (9, .invokevirtual 55, 3), (12, .ifCond .eq 24, 3), (15, .aload_n 0, 1), (16, .invokevirtual 59, 3), (19, .new 72, 3), (22, .dup, 1), (23, .aload_n 2, 1), (24, .aload_n 0, 1), (25, .iload_n 1, 1), (26, .invokevirtual 67, 3), (29, .invokespecial 74, 3), (32, .astore_n 2, 1), (33, .goto (-27), 3), (36, .aload_n 2, 1), (37, .areturn, 1)]
theorem tk_X9_both : ∀ q ∈ tb_X9_both, decode cX9_both q.1 = .ok q.2 := by decide +kernel
theorem dc_X9_both (k : Nat) {pc n : Nat} {i : Instr} (h : tb_X9_both[k]? = some (pc, i, n)) : decode cX9_both pc = .ok (i, n) := tk_X9_both (pc, i, n) (List.mem_of_getElem? h)
abbrev mX9_both : e_M := (yX9_both, cX9_both, 3, some (.object "PegBands$Cond"), [])
theorem ok_X9_both : e_mok mX9_both 1 := ⟨q1235, q118, by decide +kernel, fun sig h => by cases h; rfl⟩
def lp_X9_both_6 (F : Nat) (A : Nat → Nat) (S : e_H → Nat → Int32 → Option (Except (Nat × Nat) Nat × e_H)) (a0 : Nat) (a1 : Int32) : Nat → Nat → e_H → Option (Except (Except (Nat × Nat) Nat × e_H) (Nat × e_H))
  | 0, _, _ => none
  | n + 1, x2_6, h_6 =>
    Option.bind (e_is h_6 a0 7) (fun _ =>
    Option.bind (f_X5_is F A 7 h_6 a0 (A 7)) (fun x9 =>
    if x9 = 0 then
      some (.ok (x2_6, h_6))
    else
      Option.bind (f_X5_next F 7 h_6 a0) (fun h16 =>
      e_mkb h16 (.inl 12) 2 (fun x19 h19 =>
      Option.bind (e_is h19 a0 7) (fun _ =>
      e_b3 (S h19 a0 a1) (fun z26 h26 =>
          some (.error (.error z26, h26))) (fun x26 h26 =>
      Option.bind (f_X15_init h26 x19 x2_6 x26) (fun h29 =>
      lp_X9_both_6 F A S a0 a1 n x19 h29)))))))
def f_X9_both (F : Nat) (A : Nat → Nat) (S : e_H → Nat → Int32 → Option (Except (Nat × Nat) Nat × e_H)) (h : e_H) (a0 : Nat) (a1 : Int32) : Option (Except (Nat × Nat) Nat × e_H) :=
  Option.bind (e_is h a0 7) (fun _ =>
  e_b3 (S h a0 a1) (fun z2 h2 =>
      some (.error z2, h2)) (fun x2 h2 =>
  e_bE (
      lp_X9_both_6 F A S a0 a1 F x2 h2
    : Option (Except (Except (Nat × Nat) Nat × e_H) (Nat × e_H))) (e_u2 (fun x2_36_1 h36_1 =>
  some (.ok x2_36_1, h36_1)))))
set_option maxHeartbeats 4000000 in
set_option maxRecDepth 100000 in
theorem ct_X9_both {l : Launch} {D : e_D} {B : Heap} {F : Nat} {A : Nat → Nat} {S : e_H → Nat → Int32 → Option (Except (Nat × Nat) Nat × e_H)} {dS : Nat} {d : Nat} {h : e_H} {a0 : Nat} {a1 : Int32} {o : Except (Nat × Nat) Nat} {h1 : e_H} (hS : ∀ {h : e_H} {a0 : Nat} {a1 : Int32} {o : Except (Nat × Nat) Nat} {h1 : e_H} , S h a0 a1 = some (o, h1) → e_Run l D B dS mX9_single [.ref a0, .int a1] h (o.map (fun v => some (.ref v)), h1)) (hA : D.2.2.1 = A) (hd : 7 ≤ d) (hd2 : dS + 2 ≤ d) (e : f_X9_both F A S h a0 a1 = some (o, h1)) : e_Run l D B d mX9_both [.ref a0, .int a1] h (o.map (fun v => some (.ref v)), h1) := by
  refine e_start [some (.ref a0), some (.int a1), none] (by decide) rfl rfl rfl (Nat.le_of_ble_eq_true rfl) (fun K hl0 hD0 hB0 hM hd0 hr => ?_)
  subst hl0 hD0 hB0 hd0
  have ho : (k_M K).1.cls = "PegBands$SentenceReader" := by rw [hM]; rfl
  have hT : (k_M K).2.2.2.1 = some (.object "PegBands$Cond") := by rw [hM]
  have hX : ∀ pc, ∀ z ∈ tableOf (k_M K).2.2.2.2, covers z pc = false := by rw [hM]; intro pc z hz; cases hz
  refine (show Sx K cX9_both 0 [some (.ref a0), some (.int a1), none] [] h (f_X9_both F A S h a0 a1) (fun w => w = (o, h1)) from ?_) _ e rfl
  clear e
  unfold f_X9_both
  refine S_aload_n (dc_X9_both 0 rfl) rfl ?_
  refine S_iload_n (dc_X9_both 1 rfl) rfl ?_
  refine Sx.ask (fun _ i2 => ?_)
  refine S_exA (d := dS) (e_callV (b := a0) (As := [.int a1]) (rest := []) ok_X9_single rfl (Nat.le_of_ble_eq_true rfl) (dc_X9_both 2 rfl) ho q1236 q1238 (show e_cl[7]? = some (RX9, TX9, 11) from rfl) (e_sel.of qs34) (e_is_of i2) rfl (Nat.le_of_ble_eq_true rfl)) (by omega) (fun _ _ e => hS e) (fun z2 h2 e2 => ?_) (fun x2 h2 e2 => ?_)
  · exact SxX.out (hX _) (fun q => by cases q; exact hr)
  refine S_astore_n (L' := [some (.ref a0), some (.int a1), some (.ref x2)]) (dc_X9_both 3 rfl) rfl ?_
  refine Sx.regKE2 (pc2 := 36) (L2 := fun (x2_36_1 : Nat) (h36_1 : e_H) => [none, none, some (.ref x2_36_1)]) (st2 := fun (x2_36_1 : Nat) (h36_1 : e_H) => []) (h2 := fun (x2_36_1 : Nat) (h36_1 : e_H) => h36_1) ?_ (fun Q1 hK1 hE1 => ?_)
  · intro x2_36_1 h36_1
    show Sx K cX9_both 36 [none, none, some (.ref x2_36_1)] [] h36_1 _ _
    refine S_aload_n (dc_X9_both 19 rfl) rfl ?_
    exact S_aret (dc_X9_both 20 rfl) hT (Or.inl ⟨_, rfl⟩) (fun q => by cases q; exact hr)
  · have hK1 : ∀ (x2_36_1 : Nat) (h36_1 : e_H), Sx K cX9_both 36 [none, none, some (.ref x2_36_1)] [] h36_1 (some (.ok (x2_36_1, h36_1))) Q1 := hK1
    have ih1 : ∀ (n : Nat) (x2_6 : Nat) (h_6 : e_H), Sx K cX9_both 6 [some (.ref a0), some (.int a1), some (.ref x2_6)] [] h_6 (lp_X9_both_6 F A S a0 a1 n x2_6 h_6) Q1 := by
      intro n
      induction n with
      | zero => intro x2_6 h_6; exact Sx.none
      | succ n ih1 =>
        intro x2_6 h_6
        rw [lp_X9_both_6.eq_2]
        refine S_aload_n (dc_X9_both 4 rfl) rfl ?_
        refine S_ldcS (j := 7) hA (dc_X9_both 5 rfl) ho (List.mem_of_getElem? (i := 32) rfl) ?_
        refine Sx.ask (fun _ i9 => ?_)
        refine S_roI (d := k_d K - 1) (e_callVU (b := a0) (x := ⟨"PegBands$SentenceReader", "is", "(Ljava/lang/String;)Z"⟩) (owner := "PegBands$Reader") (As := [.ref (A 7)]) (rest := []) ok_X5_is rfl (Nat.le_of_ble_eq_true rfl) (dc_X9_both 6 rfl) ho q1241 q1242 (Or.inr ⟨rfl, q634⟩) (by decide) q634 rfl (show e_cl[7]? = some (RX9, TX9, 11) from rfl) (e_sel.of q1243) (e_is_of i9) rfl (Nat.le_of_ble_eq_true rfl)) (by omega) (fun _ e => ct_X5_is (by decide) hA (by omega) e) (fun x9 e9 => ?_)
        refine S_if_eq 36 (dc_X9_both 7 rfl) rfl (fun c12 => ?_) (fun c12 => ?_)
        · refine Sx.cut [false, false, true] ?_
          exact hK1 x2_6 h_6
        · refine S_aload_n (dc_X9_both 8 rfl) rfl ?_
          refine S_rwV (d := k_d K - 1) (e_callVU (b := a0) (x := ⟨"PegBands$SentenceReader", "next", "()V"⟩) (owner := "PegBands$Reader") (As := []) (rest := []) ok_X5_next rfl (Nat.le_of_ble_eq_true rfl) (dc_X9_both 9 rfl) ho q1257 q1258 (Or.inr ⟨rfl, q601⟩) (by decide) q601 rfl (show e_cl[7]? = some (RX9, TX9, 11) from rfl) (e_sel.of q1259) (e_is_of i9) rfl (Nat.le_of_ble_eq_true rfl)) (by omega) (fun _ e => ct_X5_next (by decide) (by omega) e) (fun h16 e16 => ?_)
          refine S_newB (dc_X9_both 10 rfl) ho (show e_cl[12]? = some (RX15, TX15, 2) from rfl) (by decide) q1312 q1313 q132 (fun x19 h19 u19 w19 => ?_)
          refine S_dup (dc_X9_both 11 rfl) rfl ?_
          refine S_aload_n (dc_X9_both 12 rfl) rfl ?_
          refine S_aload_n (dc_X9_both 13 rfl) rfl ?_
          refine S_iload_n (dc_X9_both 14 rfl) rfl ?_
          refine Sx.ask (fun _ i26 => ?_)
          refine S_exA (d := dS) (e_callV (b := a0) (As := [.int a1]) (rest := [.ref x2_6, .ref x19, .ref x19]) ok_X9_single rfl (Nat.le_of_ble_eq_true rfl) (dc_X9_both 15 rfl) ho q1236 q1238 (show e_cl[7]? = some (RX9, TX9, 11) from rfl) (e_sel.of qs34) (e_is_of i26) rfl (Nat.le_of_ble_eq_true rfl)) (by omega) (fun _ _ e => hS e) (fun z26 h26 e26 => ?_) (fun x26 h26 e26 => ?_)
          · refine SxX.err hE1 ?_
            exact SxX.out (hX _) (fun q => by cases q; exact hr)
          refine S_rwV (d := k_d K - 1) (e_callI (b := x19) (As := [.ref x2_6, .ref x26]) (rest := [.ref x19]) ok_X15_init rfl rfl rfl (Nat.le_of_ble_eq_true rfl) (dc_X9_both 16 rfl) ho q1314 q1315 rfl (Nat.le_of_ble_eq_true rfl)) (by omega) (fun _ e => ct_X15_init (by omega) e) (fun h29 e29 => ?_)
          refine S_astore_n (L' := [some (.ref a0), some (.int a1), some (.ref x19)]) (dc_X9_both 17 rfl) rfl ?_
          refine S_goto 6 (dc_X9_both 18 rfl) rfl ?_
          exact ih1 x19 h29
    exact ih1 F x2 h2
abbrev cX9_any : ByteArray := prog_16_method_3_code
def yX9_any : MethodName := ⟨"PegBands$SentenceReader", "any", "(I)LPegBands$Cond;"⟩
def tb_X9_any : List (Nat × Instr × Nat) := [(0, .aload_n 0, 1), (1, .iload_n 1, 1), (2, .invokevirtual 50, 3), (5, .astore_n 2, 1), (6, .aload_n 0, 1), (7, .ldc 53, 2), (9, .invokevirtual 55, 3), (12, .ifCond .eq 24, 3), (15, .aload_n 0, 1), (16, .invokevirtual 59, 3), (19, .new 62, 3), (22, .dup, 1), (23, .aload_n 2, 1), (24, .aload_n 0, 1), (25, .iload_n 1, 1), (26, .invokevirtual 50, 3), (29, .invokespecial 64, 3), (32, .astore_n 2, 1), (33, .goto (-27), 3), (36, .aload_n 2, 1), (37, .areturn, 1)]
theorem tk_X9_any : ∀ q ∈ tb_X9_any, decode cX9_any q.1 = .ok q.2 := by decide +kernel
theorem dc_X9_any (k : Nat) {pc n : Nat} {i : Instr} (h : tb_X9_any[k]? = some (pc, i, n)) : decode cX9_any pc = .ok (i, n) := tk_X9_any (pc, i, n) (List.mem_of_getElem? h)
abbrev mX9_any : e_M := (yX9_any, cX9_any, 3, some (.object "PegBands$Cond"), [])
theorem ok_X9_any : e_mok mX9_any 1 := ⟨q1231, q118, by decide +kernel, fun sig h => by cases h; rfl⟩
def lp_X9_any_6 (F : Nat) (A : Nat → Nat) (S : e_H → Nat → Int32 → Option (Except (Nat × Nat) Nat × e_H)) (a0 : Nat) (a1 : Int32) : Nat → Nat → e_H → Option (Except (Except (Nat × Nat) Nat × e_H) (Nat × e_H))
  | 0, _, _ => none
  | n + 1, x2_6, h_6 =>
    Option.bind (e_is h_6 a0 7) (fun _ =>
    Option.bind (f_X5_is F A 7 h_6 a0 (A 6)) (fun x9 =>
    if x9 = 0 then
      some (.ok (x2_6, h_6))
    else
      Option.bind (f_X5_next F 7 h_6 a0) (fun h16 =>
      e_mkb h16 (.inl 13) 2 (fun x19 h19 =>
      Option.bind (e_is h19 a0 7) (fun _ =>
      e_b3 (f_X9_both F A S h19 a0 a1) (fun z26 h26 =>
          some (.error (.error z26, h26))) (fun x26 h26 =>
      Option.bind (f_X16_init h26 x19 x2_6 x26) (fun h29 =>
      lp_X9_any_6 F A S a0 a1 n x19 h29)))))))
def f_X9_any (F : Nat) (A : Nat → Nat) (S : e_H → Nat → Int32 → Option (Except (Nat × Nat) Nat × e_H)) (h : e_H) (a0 : Nat) (a1 : Int32) : Option (Except (Nat × Nat) Nat × e_H) :=
  Option.bind (e_is h a0 7) (fun _ =>
  e_b3 (f_X9_both F A S h a0 a1) (fun z2 h2 =>
      some (.error z2, h2)) (fun x2 h2 =>
  e_bE (
      lp_X9_any_6 F A S a0 a1 F x2 h2
    : Option (Except (Except (Nat × Nat) Nat × e_H) (Nat × e_H))) (e_u2 (fun x2_36_1 h36_1 =>
  some (.ok x2_36_1, h36_1)))))
set_option maxHeartbeats 4000000 in
set_option maxRecDepth 100000 in
theorem ct_X9_any {l : Launch} {D : e_D} {B : Heap} {F : Nat} {A : Nat → Nat} {S : e_H → Nat → Int32 → Option (Except (Nat × Nat) Nat × e_H)} {dS : Nat} {d : Nat} {h : e_H} {a0 : Nat} {a1 : Int32} {o : Except (Nat × Nat) Nat} {h1 : e_H} (hS : ∀ {h : e_H} {a0 : Nat} {a1 : Int32} {o : Except (Nat × Nat) Nat} {h1 : e_H} , S h a0 a1 = some (o, h1) → e_Run l D B dS mX9_single [.ref a0, .int a1] h (o.map (fun v => some (.ref v)), h1)) (hA : D.2.2.1 = A) (hd : 8 ≤ d) (hd2 : dS + 3 ≤ d) (e : f_X9_any F A S h a0 a1 = some (o, h1)) : e_Run l D B d mX9_any [.ref a0, .int a1] h (o.map (fun v => some (.ref v)), h1) := by
  refine e_start [some (.ref a0), some (.int a1), none] (by decide) rfl rfl rfl (Nat.le_of_ble_eq_true rfl) (fun K hl0 hD0 hB0 hM hd0 hr => ?_)
  subst hl0 hD0 hB0 hd0
  have ho : (k_M K).1.cls = "PegBands$SentenceReader" := by rw [hM]; rfl
  have hT : (k_M K).2.2.2.1 = some (.object "PegBands$Cond") := by rw [hM]
  have hX : ∀ pc, ∀ z ∈ tableOf (k_M K).2.2.2.2, covers z pc = false := by rw [hM]; intro pc z hz; cases hz
  refine (show Sx K cX9_any 0 [some (.ref a0), some (.int a1), none] [] h (f_X9_any F A S h a0 a1) (fun w => w = (o, h1)) from ?_) _ e rfl
  clear e
  unfold f_X9_any
  refine S_aload_n (dc_X9_any 0 rfl) rfl ?_
  refine S_iload_n (dc_X9_any 1 rfl) rfl ?_
  refine Sx.ask (fun _ i2 => ?_)
  refine S_exA (d := k_d K - 1) (e_callV (b := a0) (As := [.int a1]) (rest := []) ok_X9_both rfl (Nat.le_of_ble_eq_true rfl) (dc_X9_any 2 rfl) ho q1232 q1234 (show e_cl[7]? = some (RX9, TX9, 11) from rfl) (e_sel.of qs33) (e_is_of i2) rfl (Nat.le_of_ble_eq_true rfl)) (by omega) (fun _ _ e => ct_X9_both (dS := dS) (hS := hS) hA (by omega) (by omega) e) (fun z2 h2 e2 => ?_) (fun x2 h2 e2 => ?_)
  · exact SxX.out (hX _) (fun q => by cases q; exact hr)
  refine S_astore_n (L' := [some (.ref a0), some (.int a1), some (.ref x2)]) (dc_X9_any 3 rfl) rfl ?_
  refine Sx.regKE2 (pc2 := 36) (L2 := fun (x2_36_1 : Nat) (h36_1 : e_H) => [none, none, some (.ref x2_36_1)]) (st2 := fun (x2_36_1 : Nat) (h36_1 : e_H) => []) (h2 := fun (x2_36_1 : Nat) (h36_1 : e_H) => h36_1) ?_ (fun Q1 hK1 hE1 => ?_)
  · intro x2_36_1 h36_1
    show Sx K cX9_any 36 [none, none, some (.ref x2_36_1)] [] h36_1 _ _
    refine S_aload_n (dc_X9_any 19 rfl) rfl ?_
    exact S_aret (dc_X9_any 20 rfl) hT (Or.inl ⟨_, rfl⟩) (fun q => by cases q; exact hr)
  · have hK1 : ∀ (x2_36_1 : Nat) (h36_1 : e_H), Sx K cX9_any 36 [none, none, some (.ref x2_36_1)] [] h36_1 (some (.ok (x2_36_1, h36_1))) Q1 := hK1
    have ih1 : ∀ (n : Nat) (x2_6 : Nat) (h_6 : e_H), Sx K cX9_any 6 [some (.ref a0), some (.int a1), some (.ref x2_6)] [] h_6 (lp_X9_any_6 F A S a0 a1 n x2_6 h_6) Q1 := by
      intro n
      induction n with
      | zero => intro x2_6 h_6; exact Sx.none
      | succ n ih1 =>
        intro x2_6 h_6
        rw [lp_X9_any_6.eq_2]
        refine S_aload_n (dc_X9_any 4 rfl) rfl ?_
        refine S_ldcS (j := 6) hA (dc_X9_any 5 rfl) ho (List.mem_of_getElem? (i := 33) rfl) ?_
        refine Sx.ask (fun _ i9 => ?_)
        refine S_roI (d := k_d K - 1) (e_callVU (b := a0) (x := ⟨"PegBands$SentenceReader", "is", "(Ljava/lang/String;)Z"⟩) (owner := "PegBands$Reader") (As := [.ref (A 6)]) (rest := []) ok_X5_is rfl (Nat.le_of_ble_eq_true rfl) (dc_X9_any 6 rfl) ho q1241 q1242 (Or.inr ⟨rfl, q634⟩) (by decide) q634 rfl (show e_cl[7]? = some (RX9, TX9, 11) from rfl) (e_sel.of q1243) (e_is_of i9) rfl (Nat.le_of_ble_eq_true rfl)) (by omega) (fun _ e => ct_X5_is (by decide) hA (by omega) e) (fun x9 e9 => ?_)
        refine S_if_eq 36 (dc_X9_any 7 rfl) rfl (fun c12 => ?_) (fun c12 => ?_)
        · refine Sx.cut [false, false, true] ?_
          exact hK1 x2_6 h_6
        · refine S_aload_n (dc_X9_any 8 rfl) rfl ?_
          refine S_rwV (d := k_d K - 1) (e_callVU (b := a0) (x := ⟨"PegBands$SentenceReader", "next", "()V"⟩) (owner := "PegBands$Reader") (As := []) (rest := []) ok_X5_next rfl (Nat.le_of_ble_eq_true rfl) (dc_X9_any 9 rfl) ho q1257 q1258 (Or.inr ⟨rfl, q601⟩) (by decide) q601 rfl (show e_cl[7]? = some (RX9, TX9, 11) from rfl) (e_sel.of q1259) (e_is_of i9) rfl (Nat.le_of_ble_eq_true rfl)) (by omega) (fun _ e => ct_X5_next (by decide) (by omega) e) (fun h16 e16 => ?_)
          refine S_newB (dc_X9_any 10 rfl) ho (show e_cl[13]? = some (RX16, TX16, 2) from rfl) (by decide) q1326 q1327 q133 (fun x19 h19 u19 w19 => ?_)
          refine S_dup (dc_X9_any 11 rfl) rfl ?_
          refine S_aload_n (dc_X9_any 12 rfl) rfl ?_
          refine S_aload_n (dc_X9_any 13 rfl) rfl ?_
          refine S_iload_n (dc_X9_any 14 rfl) rfl ?_
          refine Sx.ask (fun _ i26 => ?_)
          refine S_exA (d := k_d K - 1) (e_callV (b := a0) (As := [.int a1]) (rest := [.ref x2_6, .ref x19, .ref x19]) ok_X9_both rfl (Nat.le_of_ble_eq_true rfl) (dc_X9_any 15 rfl) ho q1232 q1234 (show e_cl[7]? = some (RX9, TX9, 11) from rfl) (e_sel.of qs33) (e_is_of i26) rfl (Nat.le_of_ble_eq_true rfl)) (by omega) (fun _ _ e => ct_X9_both (dS := dS) (hS := hS) hA (by omega) (by omega) e) (fun z26 h26 e26 => ?_) (fun x26 h26 e26 => ?_)
          · refine SxX.err hE1 ?_
            exact SxX.out (hX _) (fun q => by cases q; exact hr)
          refine S_rwV (d := k_d K - 1) (e_callI (b := x19) (As := [.ref x2_6, .ref x26]) (rest := [.ref x19]) ok_X16_init rfl rfl rfl (Nat.le_of_ble_eq_true rfl) (dc_X9_any 16 rfl) ho q1328 q1329 rfl (Nat.le_of_ble_eq_true rfl)) (by omega) (fun _ e => ct_X16_init (by omega) e) (fun h29 e29 => ?_)
          refine S_astore_n (L' := [some (.ref a0), some (.int a1), some (.ref x19)]) (dc_X9_any 17 rfl) rfl ?_
          refine S_goto 6 (dc_X9_any 18 rfl) rfl ?_
          exact ih1 x19 h29
    exact ih1 F x2 h2
def tb_X9_single : List (Nat × Instr × Nat) := [(0, .aload_n 0, 1), (1, .ldc 75, 2), (3, .invokevirtual 55, 3), (6, .istore_n 2, 1), (7, .aload_n 0, 1), (8, .bipush 40, 2), (10, .invokevirtual 77, 3), (13, .istore_n 3, 1), (14, .aload_n 0, 1), (15, .ldc 80, 2), (17, .invokevirtual 55, 3), (20, .ifCond .ne 12, 3), (23, .aload_n 0, 1), (24, .ldc 82, 2), (26, .invokevirtual 55, 3), (29, .ifCond .eq 7, 3), (32, .iconst 1, 1), (33, .goto 4, 3), (36, .iconst 0, 1), (37, .istore 4, 2), (39, .aload_n 0, 1), (40, .ldc 82, 2), (42, .invokevirtual 55, 3), (45, .istore 5, 2), (47, .aload_n 0, 1), (48, .ldc 84, 2), (50, .invokevirtual 55, 3), (53, .istore 6, 2), (55, .aload_n 0, 1), (56, .aload_n 0, 1), (57, .getfield 27, 3), (60, .invokevirtual 86, 3), (63, .istore 7, 2), (65, .aload_n 0, 1), (66, .iload_n 2, 1), (67, .ifCond .ne 23, 3), (70, .iload_n 3, 1), (71, .ifCond .ne 19, 3), (74, .iload 4, 2), (76, .ifCond .ne 14, 3), (79, .iload 6, 2), (81, .ifCond .ne 9, 3), (84, .iload 7, 2), (86, .iconst (-1), 1), (87, .if_icmp .eq 7, 3), (90, .iconst 1, 1), (91, .goto 4, 3), (94, .iconst 0, 1), (95, .iconst 1, 1), (96, .invokevirtual 46, 3), (99, .aload_n 0, 1), (100, .aload_n 0, 1), (101, .getfield 31, 3), (104, .bipush 20, 2), (106, .if_icmp .ge 13, 3), (109, .iload_n 1, 1), (110, .bipush 8, 2), (112, .if_icmp .gt 7, 3), (115, .iconst 1, 1), (116, .goto 4, 3), (119, .iconst 0, 1), (120, .iconst 4, 1), (121, .invokevirtual 46, 3), (124, .aload_n 0, 1), (125, .dup, 1), (126, .getfield 31, 3), (129, .iconst 1, 1), (130, .iadd, 1), (131, .putfield 31, 3), (134, .aload_n 0, 1), (135, .invokevirtual 59, 3), (138, .iload_n 2, 1), (139, .ifCond .eq 18, 3), (142, .new 90, 3), (145, .dup, 1), (146, .aload_n 0, 1), (147, .iload_n 1, 1), (148, .iconst 1, 1), (149, .iadd, 1), (150, .invokevirtual 67, 3), (153, .invokespecial 92, 3), (156, .areturn, 1), (157, .iload_n 3, 1), (158, .ifCond .eq 21, 3), (161, .aload_n 0, 1), (162, .iload_n 1, 1), (163, .iconst 1, 1), (164, .iadd, 1), (165, .invokevirtual 39, 3), (168, .astore 8, 2), (170, .aload_n 0, 1), (171, .bipush 41, 2), (173, .invokevirtual 95, 3), (176, .aload 8, 2), (178, .areturn, 1), (179, .iload 6, 2), (181, .ifCond .eq 15, 3), (184, .new 99, 3), (187, .dup, 1), (188, .iconst 5, 1), (189, .bipush 62, 2), (191, .iconst 0, 1), (192, .invokespecial 101, 3), (195, .areturn, 1), (196, .iload 4, 2), (198, .ifCond .eq 59, 3), (201, .aload_n 0, 1), (202, .aload_n 0, 1), (203, .invokevirtual 104, 3), (206, .iconst 1, 1), (207, .invokevirtual 46, 3), (210, .aload_n 0, 1), (211, .aload_n 0, 1), (212, .aload_n 0, 1), (213, .getfield 3, 3), (216, .getfield 108, 3), (219, .invokevirtual 112, 3), (222, .iconst (-1), 1), (223, .if_icmp .eq 7, 3), (226, .iconst 1, 1), (227, .goto 4, 3), (230, .iconst 0, 1), (231, .iconst 3, 1), (232, .invokevirtual 46, 3), (235, .aload_n 0, 1), (236, .getfield 116, 3), (239, .lstore 8, 2), (241, .aload_n 0, 1), (242, .invokevirtual 59, 3), (245, .new 120, 3), (248, .dup, 1), (249, .iload 5, 2), (251, .lload 8, 2), (253, .invokespecial 122, 3), (256, .areturn, 1), (257, .aload_n 0, 1), (258, .aload_n 0, 1), (259, .bipush 60, 2), (261, .invokevirtual 77, 3), (264, .ifCond .ne 21, 3), (267, .aload_n 0, 1), (268, .bipush 61, 2), (270, .invokevirtual 77, 3), (273, .ifCond .ne 12, 3), (276, .aload_n 0, 1), (277, .bipush 62, 2), (279, .invokevirtual 77, 3), (282, .ifCond .eq 7, 3), (285, .iconst 1, 1), (286, .goto 4, 3), (289, .iconst 0, 1), (290, .iconst 1, 1), (291, .invokevirtual 46, 3), (294, .aload_n 0, 1), (295, .getfield 125, 3), (298, .istore 8, 2), (300, .aload_n 0, 1), (301, .invokevirtual 59, 3), (304, .aload_n 0, 1), (305, .aload_n 0, 1), (306, .getfield 43, 3), (309, .iconst 2, 1), (310, .if_icmp .ne 7, 3), (313, .iconst 1, 1), (314, .goto 4, 3), (317, .iconst 0, 1), (318, .iconst 1, 1), (319, .invokevirtual 46, 3), (322, .aload_n 0, 1), (323, .getfield 125, 3), (326, .istore 9, 2), (328, .aload_n 0, 1), (329, .invokevirtual 59, 3), (332, .new 99, 3), (335, .dup, 1), (336, .iload 7, 2), (338, .iload 8, 2), (340, .iload 9, 2), (342, .invokespecial 101, 3), (345, .areturn, 1)]
theorem tk_X9_single : ∀ q ∈ tb_X9_single, decode cX9_single q.1 = .ok q.2 := by decide +kernel
theorem dc_X9_single (k : Nat) {pc n : Nat} {i : Instr} (h : tb_X9_single[k]? = some (pc, i, n)) : decode cX9_single pc = .ok (i, n) := tk_X9_single (pc, i, n) (List.mem_of_getElem? h)
theorem fl_X9_31_7_9 : e_FL "PegBands$SentenceReader" 31 7 9 := ⟨_, rfl, by decide, Or.inl q430⟩
theorem fl_X9_125_7_4 : e_FL "PegBands$SentenceReader" 125 7 4 := ⟨_, rfl, by decide, Or.inr (Or.inl ⟨_, q335, q336⟩)⟩
theorem fl_X9_43_7_3 : e_FL "PegBands$SentenceReader" 43 7 3 := ⟨_, rfl, by decide, Or.inr (Or.inl ⟨_, q326, q327⟩)⟩
theorem fl_X9_108_0_6 : e_FL "PegBands$SentenceReader" 108 0 6 := ⟨_, rfl, by decide, Or.inr (Or.inr (Or.inl ⟨_, q463⟩))⟩
theorem fl_X9_116_7_6 : e_FL "PegBands$SentenceReader" 116 7 6 := ⟨_, rfl, by decide, Or.inr (Or.inl ⟨_, q341, q342⟩)⟩
def fb_X9_single (F : Nat) (A : Nat → Nat) (S : e_H → Nat → Int32 → Option (Except (Nat × Nat) Nat × e_H)) (h : e_H) (a0 : Nat) (a1 : Int32) : Option (Except (Nat × Nat) Nat × e_H) :=
  Option.bind (e_is h a0 7) (fun _ =>
  Option.bind (f_X5_is F A 7 h a0 (A 8)) (fun x3 =>
  Option.bind (f_X5_is_2 7 h a0 40) (fun x10 =>
  Option.bind (f_X5_is F A 7 h a0 (A 9)) (fun x17 =>
  Option.bind (
      e_bE (
          if x17 = 0 then
            Option.bind (f_X5_is F A 7 h a0 (A 10)) (fun x26 =>
            if x26 = 0 then
              some (.error 0)
            else
              some (.ok ()))
          else
            some (.ok ())
        : Option (Except Int32 Unit)) (fun _ =>
      some 1)
    : Option (Int32)) (fun s37_1 =>
  Option.bind (f_X5_is F A 7 h a0 (A 10)) (fun x42 =>
  Option.bind (f_X5_is F A 7 h a0 (A 11)) (fun x50 =>
  Option.bind (e_fA h a0 7 8) (fun x57 =>
  Option.bind (f_X5_find F A 7 h a0 x57) (fun x60 =>
  Option.bind (
      e_bE (
          if x3 = 0 then
            if x10 = 0 then
              if s37_1 = 0 then
                if x50 = 0 then
                  if x60 = (-1) then
                    some (.error 0)
                  else
                    some (.ok ())
                else
                  some (.ok ())
              else
                some (.ok ())
            else
              some (.ok ())
          else
            some (.ok ())
        : Option (Except Int32 Unit)) (fun _ =>
      some 1)
    : Option (Int32)) (fun s95_3 =>
  e_b3 (f_X5_must 7 h a0 s95_3 1) (fun z96 h96 =>
      some (.error z96, h96)) (fun _ h96 =>
  Option.bind (e_fI h96 a0 7 9) (fun x101 =>
  Option.bind (
      e_bE (
          if 20 ≤ x101 then
            some (.ok ())
          else
            if 8 < a1 then
              some (.ok ())
            else
              some (.error 1)
        : Option (Except Int32 Unit)) (fun _ =>
      some 0)
    : Option (Int32)) (fun s120_5 =>
  e_b3 (f_X5_must 7 h96 a0 s120_5 4) (fun z121 h121 =>
      some (.error z121, h121)) (fun _ h121 =>
  Option.bind (e_fI h121 a0 7 9) (fun x126 =>
  Option.bind (e_gI h121 a0 7 9 (x126 + 1)) (fun h131 =>
  Option.bind (e_is h131 a0 7) (fun _ =>
  Option.bind (f_X5_next F 7 h131 a0) (fun h135 =>
  if x3 = 0 then
    if x10 = 0 then
      if x50 = 0 then
        if s37_1 = 0 then
          Option.bind (e_is h135 a0 7) (fun _ =>
          Option.bind (f_X5_is_2 7 h135 a0 60) (fun x261 =>
          Option.bind (
              e_bE (
                  if x261 = 0 then
                    Option.bind (f_X5_is_2 7 h135 a0 61) (fun x270 =>
                    if x270 = 0 then
                      Option.bind (f_X5_is_2 7 h135 a0 62) (fun x279 =>
                      if x279 = 0 then
                        some (.error 0)
                      else
                        some (.ok ()))
                    else
                      some (.ok ()))
                  else
                    some (.ok ())
                : Option (Except Int32 Unit)) (fun _ =>
              some 1)
            : Option (Int32)) (fun s290_7 =>
          e_b3 (f_X5_must 7 h135 a0 s290_7 1) (fun z291 h291 =>
              some (.error z291, h291)) (fun _ h291 =>
          Option.bind (e_fI h291 a0 7 4) (fun x295 =>
          Option.bind (f_X5_next F 7 h291 a0) (fun h301 =>
          Option.bind (e_fI h301 a0 7 3) (fun x306 =>
          Option.bind (
              if x306 = 2 then
                some 1
              else
                some 0
            : Option (Int32)) (fun s318_9 =>
          e_b3 (f_X5_must 7 h301 a0 s318_9 1) (fun z319 h319 =>
              some (.error z319, h319)) (fun _ h319 =>
          Option.bind (e_fI h319 a0 7 4) (fun x323 =>
          Option.bind (f_X5_next F 7 h319 a0) (fun h329 =>
          e_mkb h329 (.inl 10) 3 (fun x332 h332 =>
          Option.bind (f_X13_init h332 x332 x60 x295 x323) (fun h342 =>
          some (.ok x332, h342))))))))))))))
        else
          Option.bind (e_is h135 a0 7) (fun _ =>
          Option.bind (f_X5_isName F A 7 h135 a0) (fun x203 =>
          e_b3 (f_X5_must 7 h135 a0 x203 1) (fun z207 h207 =>
              some (.error z207, h207)) (fun _ h207 =>
          Option.bind (e_fA h207 a0 7 10) (fun x213 =>
          Option.bind (e_fA h207 x213 0 6) (fun x216 =>
          Option.bind (f_X5_of F 7 h207 a0 x216) (fun x219 =>
          Option.bind (
              if x219 = (-1) then
                some 0
              else
                some 1
            : Option (Int32)) (fun s231_10 =>
          e_b3 (f_X5_must 7 h207 a0 s231_10 3) (fun z232 h232 =>
              some (.error z232, h232)) (fun _ h232 =>
          Option.bind (e_fJ h232 a0 7 6) (fun x236 =>
          Option.bind (f_X5_next F 7 h232 a0) (fun h242 =>
          e_mkb h242 (.inl 11) 2 (fun x245 h245 =>
          Option.bind (f_X14_init h245 x245 x42 x236) (fun h253 =>
          some (.ok x245, h253)))))))))))))
      else
        e_mkb h135 (.inl 10) 3 (fun x184 h184 =>
        Option.bind (f_X13_init h184 x184 5 62 0) (fun h192 =>
        some (.ok x184, h192)))
    else
      Option.bind (e_is h135 a0 7) (fun _ =>
      e_b3 (f_X9_any F A S h135 a0 (a1 + 1)) (fun z165 h165 =>
          some (.error z165, h165)) (fun x165 h165 =>
      Option.bind (e_is h165 a0 7) (fun _ =>
      e_b3 (f_X5_sign F 7 h165 a0 41) (fun z173 h173 =>
          some (.error z173, h173)) (fun _ h173 =>
      some (.ok x165, h173)))))
  else
    e_mkb h135 (.inl 9) 1 (fun x142 h142 =>
    Option.bind (e_is h142 a0 7) (fun _ =>
    e_b3 (S h142 a0 (a1 + 1)) (fun z150 h150 =>
        some (.error z150, h150)) (fun x150 h150 =>
    Option.bind (f_X12_init h150 x142 x150) (fun h153 =>
    some (.ok x142, h153)))))))))))))))))))))))
set_option maxHeartbeats 4000000 in
set_option maxRecDepth 100000 in
theorem cb_X9_single {l : Launch} {D : e_D} {B : Heap} {F : Nat} {A : Nat → Nat} {S : e_H → Nat → Int32 → Option (Except (Nat × Nat) Nat × e_H)} {dS : Nat} {d : Nat} {h : e_H} {a0 : Nat} {a1 : Int32} {o : Except (Nat × Nat) Nat} {h1 : e_H} (hS : ∀ {h : e_H} {a0 : Nat} {a1 : Int32} {o : Except (Nat × Nat) Nat} {h1 : e_H} , S h a0 a1 = some (o, h1) → e_Run l D B dS mX9_single [.ref a0, .int a1] h (o.map (fun v => some (.ref v)), h1)) (hA : D.2.2.1 = A) (hd : 9 ≤ d) (hd2 : dS + 4 ≤ d) (e : fb_X9_single F A S h a0 a1 = some (o, h1)) : e_Run l D B d mX9_single [.ref a0, .int a1] h (o.map (fun v => some (.ref v)), h1) := by
  refine e_start [some (.ref a0), some (.int a1), none, none, none, none, none, none, none, none] (by decide) rfl rfl rfl (Nat.le_of_ble_eq_true rfl) (fun K hl0 hD0 hB0 hM hd0 hr => ?_)
  subst hl0 hD0 hB0 hd0
  have ho : (k_M K).1.cls = "PegBands$SentenceReader" := by rw [hM]; rfl
  have hT : (k_M K).2.2.2.1 = some (.object "PegBands$Cond") := by rw [hM]
  have hX : ∀ pc, ∀ z ∈ tableOf (k_M K).2.2.2.2, covers z pc = false := by rw [hM]; intro pc z hz; cases hz
  refine (show Sx K cX9_single 0 [some (.ref a0), some (.int a1), none, none, none, none, none, none, none, none] [] h (fb_X9_single F A S h a0 a1) (fun w => w = (o, h1)) from ?_) _ e rfl
  clear e
  unfold fb_X9_single
  refine S_aload_n (dc_X9_single 0 rfl) rfl ?_
  refine S_ldcS (j := 8) hA (dc_X9_single 1 rfl) ho (List.mem_of_getElem? (i := 28) rfl) ?_
  refine Sx.ask (fun _ i3 => ?_)
  refine S_roI (d := k_d K - 1) (e_callVU (b := a0) (x := ⟨"PegBands$SentenceReader", "is", "(Ljava/lang/String;)Z"⟩) (owner := "PegBands$Reader") (As := [.ref (A 8)]) (rest := []) ok_X5_is rfl (Nat.le_of_ble_eq_true rfl) (dc_X9_single 2 rfl) ho q1241 q1242 (Or.inr ⟨rfl, q634⟩) (by decide) q634 rfl (show e_cl[7]? = some (RX9, TX9, 11) from rfl) (e_sel.of q1243) (e_is_of i3) rfl (Nat.le_of_ble_eq_true rfl)) (by omega) (fun _ e => ct_X5_is (by decide) hA (by omega) e) (fun x3 e3 => ?_)
  refine S_istore_n (L' := [some (.ref a0), some (.int a1), some (.int x3), none, none, none, none, none, none, none]) (dc_X9_single 3 rfl) rfl ?_
  refine S_aload_n (dc_X9_single 4 rfl) rfl ?_
  refine S_bipush_ 40 (dc_X9_single 5 rfl) rfl ?_
  refine S_roI (d := k_d K - 1) (e_callVU (b := a0) (x := ⟨"PegBands$SentenceReader", "is", "(I)Z"⟩) (owner := "PegBands$Reader") (As := [.int 40]) (rest := []) ok_X5_is_2 rfl (Nat.le_of_ble_eq_true rfl) (dc_X9_single 6 rfl) ho q1244 q1245 (Or.inr ⟨rfl, q715⟩) (by decide) q715 rfl (show e_cl[7]? = some (RX9, TX9, 11) from rfl) (e_sel.of q1246) (e_is_of i3) rfl (Nat.le_of_ble_eq_true rfl)) (by omega) (fun _ e => ct_X5_is_2 (by decide) (by omega) e) (fun x10 e10 => ?_)
  refine S_istore_n (L' := [some (.ref a0), some (.int a1), some (.int x3), some (.int x10), none, none, none, none, none, none]) (dc_X9_single 7 rfl) rfl ?_
  refine S_aload_n (dc_X9_single 8 rfl) rfl ?_
  refine S_ldcS (j := 9) hA (dc_X9_single 9 rfl) ho (List.mem_of_getElem? (i := 29) rfl) ?_
  refine S_roI (d := k_d K - 1) (e_callVU (b := a0) (x := ⟨"PegBands$SentenceReader", "is", "(Ljava/lang/String;)Z"⟩) (owner := "PegBands$Reader") (As := [.ref (A 9)]) (rest := []) ok_X5_is rfl (Nat.le_of_ble_eq_true rfl) (dc_X9_single 10 rfl) ho q1241 q1242 (Or.inr ⟨rfl, q634⟩) (by decide) q634 rfl (show e_cl[7]? = some (RX9, TX9, 11) from rfl) (e_sel.of q1243) (e_is_of i3) rfl (Nat.le_of_ble_eq_true rfl)) (by omega) (fun _ e => ct_X5_is (by decide) hA (by omega) e) (fun x17 e17 => ?_)
  refine Sx.regK1 (pc2 := 37) (L2 := fun (s37_1 : Int32) => [some (.ref a0), some (.int a1), some (.int x3), some (.int x10), none, none, none, none, none, none]) (st2 := fun (s37_1 : Int32) => [.int s37_1]) (h2 := fun (s37_1 : Int32) => h) ?_ (fun Q1 hK1 => ?_)
  · intro s37_1
    show Sx K cX9_single 37 [some (.ref a0), some (.int a1), some (.int x3), some (.int x10), none, none, none, none, none, none] [.int s37_1] h _ _
    refine S_istore (L' := [some (.ref a0), some (.int a1), some (.int x3), some (.int x10), some (.int s37_1), none, none, none, none, none]) (dc_X9_single 19 rfl) rfl ?_
    refine S_aload_n (dc_X9_single 20 rfl) rfl ?_
    refine S_ldcS (j := 10) hA (dc_X9_single 21 rfl) ho (List.mem_of_getElem? (i := 30) rfl) ?_
    refine S_roI (d := k_d K - 1) (e_callVU (b := a0) (x := ⟨"PegBands$SentenceReader", "is", "(Ljava/lang/String;)Z"⟩) (owner := "PegBands$Reader") (As := [.ref (A 10)]) (rest := []) ok_X5_is rfl (Nat.le_of_ble_eq_true rfl) (dc_X9_single 22 rfl) ho q1241 q1242 (Or.inr ⟨rfl, q634⟩) (by decide) q634 rfl (show e_cl[7]? = some (RX9, TX9, 11) from rfl) (e_sel.of q1243) (e_is_of i3) rfl (Nat.le_of_ble_eq_true rfl)) (by omega) (fun _ e => ct_X5_is (by decide) hA (by omega) e) (fun x42 e42 => ?_)
    refine S_istore (L' := [some (.ref a0), some (.int a1), some (.int x3), some (.int x10), some (.int s37_1), some (.int x42), none, none, none, none]) (dc_X9_single 23 rfl) rfl ?_
    refine S_aload_n (dc_X9_single 24 rfl) rfl ?_
    refine S_ldcS (j := 11) hA (dc_X9_single 25 rfl) ho (List.mem_of_getElem? (i := 31) rfl) ?_
    refine S_roI (d := k_d K - 1) (e_callVU (b := a0) (x := ⟨"PegBands$SentenceReader", "is", "(Ljava/lang/String;)Z"⟩) (owner := "PegBands$Reader") (As := [.ref (A 11)]) (rest := []) ok_X5_is rfl (Nat.le_of_ble_eq_true rfl) (dc_X9_single 26 rfl) ho q1241 q1242 (Or.inr ⟨rfl, q634⟩) (by decide) q634 rfl (show e_cl[7]? = some (RX9, TX9, 11) from rfl) (e_sel.of q1243) (e_is_of i3) rfl (Nat.le_of_ble_eq_true rfl)) (by omega) (fun _ e => ct_X5_is (by decide) hA (by omega) e) (fun x50 e50 => ?_)
    refine S_istore (L' := [some (.ref a0), some (.int a1), some (.int x3), some (.int x10), some (.int s37_1), some (.int x42), some (.int x50), none, none, none]) (dc_X9_single 27 rfl) rfl ?_
    refine S_aload_n (dc_X9_single 28 rfl) rfl ?_
    refine S_aload_n (dc_X9_single 29 rfl) rfl ?_
    refine S_getA (dc_X9_single 30 rfl) ho fl_X9_27_7_8 (fun _ _ => rfl) (fun x57 e57 => ?_)
    refine S_roI (d := k_d K - 1) (e_callVU (b := a0) (x := ⟨"PegBands$SentenceReader", "find", "([Ljava/lang/String;)I"⟩) (owner := "PegBands$Reader") (As := [.ref x57]) (rest := []) ok_X5_find rfl (Nat.le_of_ble_eq_true rfl) (dc_X9_single 31 rfl) ho q1250 q1251 (Or.inr ⟨rfl, q751⟩) (by decide) q751 rfl (show e_cl[7]? = some (RX9, TX9, 11) from rfl) (e_sel.of q1253) (e_is_of i3) rfl (Nat.le_of_ble_eq_true rfl)) (by omega) (fun _ e => ct_X5_find (by decide) hA (by omega) e) (fun x60 e60 => ?_)
    refine S_istore (L' := [some (.ref a0), some (.int a1), some (.int x3), some (.int x10), some (.int s37_1), some (.int x42), some (.int x50), some (.int x60), none, none]) (dc_X9_single 32 rfl) rfl ?_
    refine S_aload_n (dc_X9_single 33 rfl) rfl ?_
    refine S_iload_n (dc_X9_single 34 rfl) rfl ?_
    refine Sx.regK1 (pc2 := 95) (L2 := fun (s95_3 : Int32) => [some (.ref a0), some (.int a1), some (.int x3), some (.int x10), some (.int s37_1), some (.int x42), some (.int x50), some (.int x60), none, none]) (st2 := fun (s95_3 : Int32) => [.int s95_3, .ref a0]) (h2 := fun (s95_3 : Int32) => h) ?_ (fun Q3 hK3 => ?_)
    · intro s95_3
      show Sx K cX9_single 95 [some (.ref a0), some (.int a1), some (.int x3), some (.int x10), some (.int s37_1), some (.int x42), some (.int x50), some (.int x60), none, none] [.int s95_3, .ref a0] h _ _
      refine S_iconst_ 1 (dc_X9_single 48 rfl) rfl ?_
      refine S_exV (d := k_d K - 1) (e_callVU (b := a0) (x := ⟨"PegBands$SentenceReader", "must", "(ZI)V"⟩) (owner := "PegBands$Reader") (As := [.int s95_3, .int 1]) (rest := []) ok_X5_must rfl (Nat.le_of_ble_eq_true rfl) (dc_X9_single 49 rfl) ho q1254 q1255 (Or.inr ⟨rfl, q689⟩) (by decide) q689 rfl (show e_cl[7]? = some (RX9, TX9, 11) from rfl) (e_sel.of q1256) (e_is_of i3) rfl (Nat.le_of_ble_eq_true rfl)) (by omega) (fun _ _ e => ct_X5_must (by decide) (by omega) e) (fun z96 h96 e96 => ?_) (fun _ h96 e96 => ?_)
      · exact SxX.out (hX _) (fun q => by cases q; exact hr)
      refine S_aload_n (dc_X9_single 50 rfl) rfl ?_
      refine S_aload_n (dc_X9_single 51 rfl) rfl ?_
      refine S_getI (dc_X9_single 52 rfl) ho fl_X9_31_7_9 (fun _ _ => rfl) (fun x101 e101 => ?_)
      refine S_bipush_ 20 (dc_X9_single 53 rfl) rfl ?_
      refine Sx.regK1 (pc2 := 120) (L2 := fun (s120_5 : Int32) => [some (.ref a0), some (.int a1), some (.int x3), some (.int x10), some (.int s37_1), some (.int x42), some (.int x50), some (.int x60), none, none]) (st2 := fun (s120_5 : Int32) => [.int s120_5, .ref a0]) (h2 := fun (s120_5 : Int32) => h96) ?_ (fun Q5 hK5 => ?_)
      · intro s120_5
        show Sx K cX9_single 120 [some (.ref a0), some (.int a1), some (.int x3), some (.int x10), some (.int s37_1), some (.int x42), some (.int x50), some (.int x60), none, none] [.int s120_5, .ref a0] h96 _ _
        refine S_iconst_ 4 (dc_X9_single 61 rfl) rfl ?_
        refine S_exV (d := k_d K - 1) (e_callVU (b := a0) (x := ⟨"PegBands$SentenceReader", "must", "(ZI)V"⟩) (owner := "PegBands$Reader") (As := [.int s120_5, .int 4]) (rest := []) ok_X5_must rfl (Nat.le_of_ble_eq_true rfl) (dc_X9_single 62 rfl) ho q1254 q1255 (Or.inr ⟨rfl, q689⟩) (by decide) q689 rfl (show e_cl[7]? = some (RX9, TX9, 11) from rfl) (e_sel.of q1256) (e_fI_of e101).1 rfl (Nat.le_of_ble_eq_true rfl)) (by omega) (fun _ _ e => ct_X5_must (by decide) (by omega) e) (fun z121 h121 e121 => ?_) (fun _ h121 e121 => ?_)
        · exact SxX.out (hX _) (fun q => by cases q; exact hr)
        refine S_aload_n (dc_X9_single 63 rfl) rfl ?_
        refine S_dup (dc_X9_single 64 rfl) rfl ?_
        refine S_getI (dc_X9_single 65 rfl) ho fl_X9_31_7_9 (fun _ _ => rfl) (fun x126 e126 => ?_)
        refine S_iconst_ 1 (dc_X9_single 66 rfl) rfl ?_
        refine S_iadd (dc_X9_single 67 rfl) ?_
        refine S_putI (dc_X9_single 68 rfl) ho fl_X9_31_7_9 (fun _ _ => rfl) (Or.inl rfl) rfl rfl (fun h131 e131 => ?_)
        refine S_aload_n (dc_X9_single 69 rfl) rfl ?_
        refine Sx.ask (fun _ i135 => ?_)
        refine S_rwV (d := k_d K - 1) (e_callVU (b := a0) (x := ⟨"PegBands$SentenceReader", "next", "()V"⟩) (owner := "PegBands$Reader") (As := []) (rest := []) ok_X5_next rfl (Nat.le_of_ble_eq_true rfl) (dc_X9_single 70 rfl) ho q1257 q1258 (Or.inr ⟨rfl, q601⟩) (by decide) q601 rfl (show e_cl[7]? = some (RX9, TX9, 11) from rfl) (e_sel.of q1259) (e_is_of i135) rfl (Nat.le_of_ble_eq_true rfl)) (by omega) (fun _ e => ct_X5_next (by decide) (by omega) e) (fun h135 e135 => ?_)
        refine S_iload_n (dc_X9_single 71 rfl) rfl ?_
        refine S_if_eq 157 (dc_X9_single 72 rfl) rfl (fun c139 => ?_) (fun c139 => ?_)
        · refine S_iload_n (dc_X9_single 82 rfl) rfl ?_
          refine S_if_eq 179 (dc_X9_single 83 rfl) rfl (fun c158 => ?_) (fun c158 => ?_)
          · refine S_iload (dc_X9_single 95 rfl) rfl ?_
            refine S_if_eq 196 (dc_X9_single 96 rfl) rfl (fun c181 => ?_) (fun c181 => ?_)
            · refine S_iload (dc_X9_single 104 rfl) rfl ?_
              refine S_if_eq 257 (dc_X9_single 105 rfl) rfl (fun c198 => ?_) (fun c198 => ?_)
              · refine S_aload_n (dc_X9_single 135 rfl) rfl ?_
                refine S_aload_n (dc_X9_single 136 rfl) rfl ?_
                refine S_bipush_ 60 (dc_X9_single 137 rfl) rfl ?_
                refine Sx.ask (fun _ i261 => ?_)
                refine S_roI (d := k_d K - 1) (e_callVU (b := a0) (x := ⟨"PegBands$SentenceReader", "is", "(I)Z"⟩) (owner := "PegBands$Reader") (As := [.int 60]) (rest := [.ref a0]) ok_X5_is_2 rfl (Nat.le_of_ble_eq_true rfl) (dc_X9_single 138 rfl) ho q1244 q1245 (Or.inr ⟨rfl, q715⟩) (by decide) q715 rfl (show e_cl[7]? = some (RX9, TX9, 11) from rfl) (e_sel.of q1246) (e_is_of i261) rfl (Nat.le_of_ble_eq_true rfl)) (by omega) (fun _ e => ct_X5_is_2 (by decide) (by omega) e) (fun x261 e261 => ?_)
                refine Sx.regK1 (pc2 := 290) (L2 := fun (s290_7 : Int32) => [some (.ref a0), none, none, none, none, none, none, some (.int x60), none, none]) (st2 := fun (s290_7 : Int32) => [.int s290_7, .ref a0]) (h2 := fun (s290_7 : Int32) => h135) ?_ (fun Q7 hK7 => ?_)
                · intro s290_7
                  show Sx K cX9_single 290 [some (.ref a0), none, none, none, none, none, none, some (.int x60), none, none] [.int s290_7, .ref a0] h135 _ _
                  refine S_iconst_ 1 (dc_X9_single 151 rfl) rfl ?_
                  refine S_exV (d := k_d K - 1) (e_callVU (b := a0) (x := ⟨"PegBands$SentenceReader", "must", "(ZI)V"⟩) (owner := "PegBands$Reader") (As := [.int s290_7, .int 1]) (rest := []) ok_X5_must rfl (Nat.le_of_ble_eq_true rfl) (dc_X9_single 152 rfl) ho q1254 q1255 (Or.inr ⟨rfl, q689⟩) (by decide) q689 rfl (show e_cl[7]? = some (RX9, TX9, 11) from rfl) (e_sel.of q1256) (e_is_of i261) rfl (Nat.le_of_ble_eq_true rfl)) (by omega) (fun _ _ e => ct_X5_must (by decide) (by omega) e) (fun z291 h291 e291 => ?_) (fun _ h291 e291 => ?_)
                  · exact SxX.out (hX _) (fun q => by cases q; exact hr)
                  refine S_aload_n (dc_X9_single 153 rfl) rfl ?_
                  refine S_getI (dc_X9_single 154 rfl) ho fl_X9_125_7_4 (fun _ _ => rfl) (fun x295 e295 => ?_)
                  refine S_istore (L' := [some (.ref a0), none, none, none, none, none, none, some (.int x60), some (.int x295), none]) (dc_X9_single 155 rfl) rfl ?_
                  refine S_aload_n (dc_X9_single 156 rfl) rfl ?_
                  refine S_rwV (d := k_d K - 1) (e_callVU (b := a0) (x := ⟨"PegBands$SentenceReader", "next", "()V"⟩) (owner := "PegBands$Reader") (As := []) (rest := []) ok_X5_next rfl (Nat.le_of_ble_eq_true rfl) (dc_X9_single 157 rfl) ho q1257 q1258 (Or.inr ⟨rfl, q601⟩) (by decide) q601 rfl (show e_cl[7]? = some (RX9, TX9, 11) from rfl) (e_sel.of q1259) (e_fI_of e295).1 rfl (Nat.le_of_ble_eq_true rfl)) (by omega) (fun _ e => ct_X5_next (by decide) (by omega) e) (fun h301 e301 => ?_)
                  refine S_aload_n (dc_X9_single 158 rfl) rfl ?_
                  refine S_aload_n (dc_X9_single 159 rfl) rfl ?_
                  refine S_getI (dc_X9_single 160 rfl) ho fl_X9_43_7_3 (fun _ _ => rfl) (fun x306 e306 => ?_)
                  refine S_iconst_ 2 (dc_X9_single 161 rfl) rfl ?_
                  refine Sx.regK1 (pc2 := 318) (L2 := fun (s318_9 : Int32) => [some (.ref a0), none, none, none, none, none, none, some (.int x60), some (.int x295), none]) (st2 := fun (s318_9 : Int32) => [.int s318_9, .ref a0]) (h2 := fun (s318_9 : Int32) => h301) ?_ (fun Q9 hK9 => ?_)
                  · intro s318_9
                    show Sx K cX9_single 318 [some (.ref a0), none, none, none, none, none, none, some (.int x60), some (.int x295), none] [.int s318_9, .ref a0] h301 _ _
                    refine S_iconst_ 1 (dc_X9_single 166 rfl) rfl ?_
                    refine S_exV (d := k_d K - 1) (e_callVU (b := a0) (x := ⟨"PegBands$SentenceReader", "must", "(ZI)V"⟩) (owner := "PegBands$Reader") (As := [.int s318_9, .int 1]) (rest := []) ok_X5_must rfl (Nat.le_of_ble_eq_true rfl) (dc_X9_single 167 rfl) ho q1254 q1255 (Or.inr ⟨rfl, q689⟩) (by decide) q689 rfl (show e_cl[7]? = some (RX9, TX9, 11) from rfl) (e_sel.of q1256) (e_fI_of e306).1 rfl (Nat.le_of_ble_eq_true rfl)) (by omega) (fun _ _ e => ct_X5_must (by decide) (by omega) e) (fun z319 h319 e319 => ?_) (fun _ h319 e319 => ?_)
                    · exact SxX.out (hX _) (fun q => by cases q; exact hr)
                    refine S_aload_n (dc_X9_single 168 rfl) rfl ?_
                    refine S_getI (dc_X9_single 169 rfl) ho fl_X9_125_7_4 (fun _ _ => rfl) (fun x323 e323 => ?_)
                    refine S_istore (L' := [some (.ref a0), none, none, none, none, none, none, some (.int x60), some (.int x295), some (.int x323)]) (dc_X9_single 170 rfl) rfl ?_
                    refine S_aload_n (dc_X9_single 171 rfl) rfl ?_
                    refine S_rwV (d := k_d K - 1) (e_callVU (b := a0) (x := ⟨"PegBands$SentenceReader", "next", "()V"⟩) (owner := "PegBands$Reader") (As := []) (rest := []) ok_X5_next rfl (Nat.le_of_ble_eq_true rfl) (dc_X9_single 172 rfl) ho q1257 q1258 (Or.inr ⟨rfl, q601⟩) (by decide) q601 rfl (show e_cl[7]? = some (RX9, TX9, 11) from rfl) (e_sel.of q1259) (e_fI_of e323).1 rfl (Nat.le_of_ble_eq_true rfl)) (by omega) (fun _ e => ct_X5_next (by decide) (by omega) e) (fun h329 e329 => ?_)
                    refine S_newB (dc_X9_single 173 rfl) ho (show e_cl[10]? = some (RX13, TX13, 3) from rfl) (by decide) q1276 q1277 q130 (fun x332 h332 u332 w332 => ?_)
                    refine S_dup (dc_X9_single 174 rfl) rfl ?_
                    refine S_iload (dc_X9_single 175 rfl) rfl ?_
                    refine S_iload (dc_X9_single 176 rfl) rfl ?_
                    refine S_iload (dc_X9_single 177 rfl) rfl ?_
                    refine S_rwV (d := k_d K - 1) (e_callI (b := x332) (As := [.int x60, .int x295, .int x323]) (rest := [.ref x332]) ok_X13_init rfl rfl rfl (Nat.le_of_ble_eq_true rfl) (dc_X9_single 178 rfl) ho q1278 q1279 rfl (Nat.le_of_ble_eq_true rfl)) (by omega) (fun _ e => ct_X13_init (by omega) e) (fun h342 e342 => ?_)
                    exact S_aret (dc_X9_single 179 rfl) hT (Or.inl ⟨_, rfl⟩) (fun q => by cases q; exact hr)
                  · have hK9 : ∀ (s318_9 : Int32), Sx K cX9_single 318 [some (.ref a0), none, none, none, none, none, none, some (.int x60), some (.int x295), none] [.int s318_9, .ref a0] h301 (some s318_9) Q9 := hK9
                    refine S_icmp_ne 317 (dc_X9_single 162 rfl) rfl (fun c310 => ?_) (fun c310 => ?_)
                    · refine S_iconst_ 0 (dc_X9_single 165 rfl) rfl ?_
                      exact hK9 0
                    · refine S_iconst_ 1 (dc_X9_single 163 rfl) rfl ?_
                      refine S_goto 318 (dc_X9_single 164 rfl) rfl ?_
                      exact hK9 1
                · have hK7 : ∀ (s290_7 : Int32), Sx K cX9_single 290 [some (.ref a0), none, none, none, none, none, none, some (.int x60), none, none] [.int s290_7, .ref a0] h135 (some s290_7) Q7 := hK7
                  refine Sx.regKE0 (pc2 := 285) (L2 := [some (.ref a0), none, none, none, none, none, none, some (.int x60), none, none]) (st2 := [.ref a0]) (h2 := h135) ?_ (fun Q8 hK8 hE8 => ?_)
                  · skip
                    refine S_iconst_ 1 (dc_X9_single 148 rfl) rfl ?_
                    refine S_goto 290 (dc_X9_single 149 rfl) rfl ?_
                    exact hK7 1
                  · have hK8 : Sx K cX9_single 285 [some (.ref a0), none, none, none, none, none, none, some (.int x60), none, none] [.ref a0] h135 (some (.ok ())) Q8 := hK8
                    refine S_if_ne 285 (dc_X9_single 139 rfl) rfl (fun c264 => ?_) (fun c264 => ?_)
                    · refine Sx.cut [true, false, false, false, false, false, false, true, true, true] ?_
                      exact hK8
                    · refine S_aload_n (dc_X9_single 140 rfl) rfl ?_
                      refine S_bipush_ 61 (dc_X9_single 141 rfl) rfl ?_
                      refine S_roI (d := k_d K - 1) (e_callVU (b := a0) (x := ⟨"PegBands$SentenceReader", "is", "(I)Z"⟩) (owner := "PegBands$Reader") (As := [.int 61]) (rest := [.ref a0]) ok_X5_is_2 rfl (Nat.le_of_ble_eq_true rfl) (dc_X9_single 142 rfl) ho q1244 q1245 (Or.inr ⟨rfl, q715⟩) (by decide) q715 rfl (show e_cl[7]? = some (RX9, TX9, 11) from rfl) (e_sel.of q1246) (e_is_of i261) rfl (Nat.le_of_ble_eq_true rfl)) (by omega) (fun _ e => ct_X5_is_2 (by decide) (by omega) e) (fun x270 e270 => ?_)
                      refine S_if_ne 285 (dc_X9_single 143 rfl) rfl (fun c273 => ?_) (fun c273 => ?_)
                      · refine Sx.cut [true, false, false, false, false, false, false, true, true, true] ?_
                        exact hK8
                      · refine S_aload_n (dc_X9_single 144 rfl) rfl ?_
                        refine S_bipush_ 62 (dc_X9_single 145 rfl) rfl ?_
                        refine S_roI (d := k_d K - 1) (e_callVU (b := a0) (x := ⟨"PegBands$SentenceReader", "is", "(I)Z"⟩) (owner := "PegBands$Reader") (As := [.int 62]) (rest := [.ref a0]) ok_X5_is_2 rfl (Nat.le_of_ble_eq_true rfl) (dc_X9_single 146 rfl) ho q1244 q1245 (Or.inr ⟨rfl, q715⟩) (by decide) q715 rfl (show e_cl[7]? = some (RX9, TX9, 11) from rfl) (e_sel.of q1246) (e_is_of i261) rfl (Nat.le_of_ble_eq_true rfl)) (by omega) (fun _ e => ct_X5_is_2 (by decide) (by omega) e) (fun x279 e279 => ?_)
                        refine S_if_eq 289 (dc_X9_single 147 rfl) rfl (fun c282 => ?_) (fun c282 => ?_)
                        · refine S_iconst_ 0 (dc_X9_single 150 rfl) rfl ?_
                          refine Sx.cut [true, false, false, false, false, false, false, true, true, true] ?_
                          refine Sx.err hE8 ?_
                          exact hK7 0
                        · refine Sx.cut [true, false, false, false, false, false, false, true, true, true] ?_
                          exact hK8
              · refine S_aload_n (dc_X9_single 106 rfl) rfl ?_
                refine S_aload_n (dc_X9_single 107 rfl) rfl ?_
                refine Sx.ask (fun _ i203 => ?_)
                refine S_roI (d := k_d K - 1) (e_callVU (b := a0) (x := ⟨"PegBands$SentenceReader", "isName", "()Z"⟩) (owner := "PegBands$Reader") (As := []) (rest := [.ref a0]) ok_X5_isName rfl (Nat.le_of_ble_eq_true rfl) (dc_X9_single 108 rfl) ho q1292 q1293 (Or.inr ⟨rfl, q748⟩) (by decide) q748 rfl (show e_cl[7]? = some (RX9, TX9, 11) from rfl) (e_sel.of q1294) (e_is_of i203) rfl (Nat.le_of_ble_eq_true rfl)) (by omega) (fun _ e => ct_X5_isName (by decide) hA (by omega) e) (fun x203 e203 => ?_)
                refine S_iconst_ 1 (dc_X9_single 109 rfl) rfl ?_
                refine S_exV (d := k_d K - 1) (e_callVU (b := a0) (x := ⟨"PegBands$SentenceReader", "must", "(ZI)V"⟩) (owner := "PegBands$Reader") (As := [.int x203, .int 1]) (rest := []) ok_X5_must rfl (Nat.le_of_ble_eq_true rfl) (dc_X9_single 110 rfl) ho q1254 q1255 (Or.inr ⟨rfl, q689⟩) (by decide) q689 rfl (show e_cl[7]? = some (RX9, TX9, 11) from rfl) (e_sel.of q1256) (e_is_of i203) rfl (Nat.le_of_ble_eq_true rfl)) (by omega) (fun _ _ e => ct_X5_must (by decide) (by omega) e) (fun z207 h207 e207 => ?_) (fun _ h207 e207 => ?_)
                · exact SxX.out (hX _) (fun q => by cases q; exact hr)
                refine S_aload_n (dc_X9_single 111 rfl) rfl ?_
                refine S_aload_n (dc_X9_single 112 rfl) rfl ?_
                refine S_aload_n (dc_X9_single 113 rfl) rfl ?_
                refine S_getA (dc_X9_single 114 rfl) ho fl_X9_3_7_10 (fun _ _ => rfl) (fun x213 e213 => ?_)
                refine S_getA (dc_X9_single 115 rfl) ho fl_X9_108_0_6 (fun _ _ => rfl) (fun x216 e216 => ?_)
                refine S_roI (d := k_d K - 1) (e_callVU (b := a0) (x := ⟨"PegBands$SentenceReader", "of", "(LPegBands$Board;)I"⟩) (owner := "PegBands$Reader") (As := [.ref x216]) (rest := [.ref a0]) ok_X5_of rfl (Nat.le_of_ble_eq_true rfl) (dc_X9_single 116 rfl) ho q1295 q1296 (Or.inr ⟨rfl, q761⟩) (by decide) q761 rfl (show e_cl[7]? = some (RX9, TX9, 11) from rfl) (e_sel.of q1297) (e_fA_of e213).1 rfl (Nat.le_of_ble_eq_true rfl)) (by omega) (fun _ e => ct_X5_of (by decide) (by omega) e) (fun x219 e219 => ?_)
                refine S_iconst_ (-1) (dc_X9_single 117 rfl) rfl ?_
                refine Sx.regK1 (pc2 := 231) (L2 := fun (s231_10 : Int32) => [some (.ref a0), none, none, none, none, some (.int x42), none, none, none, none]) (st2 := fun (s231_10 : Int32) => [.int s231_10, .ref a0]) (h2 := fun (s231_10 : Int32) => h207) ?_ (fun Q10 hK10 => ?_)
                · intro s231_10
                  show Sx K cX9_single 231 [some (.ref a0), none, none, none, none, some (.int x42), none, none, none, none] [.int s231_10, .ref a0] h207 _ _
                  refine S_iconst_ 3 (dc_X9_single 122 rfl) rfl ?_
                  refine S_exV (d := k_d K - 1) (e_callVU (b := a0) (x := ⟨"PegBands$SentenceReader", "must", "(ZI)V"⟩) (owner := "PegBands$Reader") (As := [.int s231_10, .int 3]) (rest := []) ok_X5_must rfl (Nat.le_of_ble_eq_true rfl) (dc_X9_single 123 rfl) ho q1254 q1255 (Or.inr ⟨rfl, q689⟩) (by decide) q689 rfl (show e_cl[7]? = some (RX9, TX9, 11) from rfl) (e_sel.of q1256) (e_fA_of e213).1 rfl (Nat.le_of_ble_eq_true rfl)) (by omega) (fun _ _ e => ct_X5_must (by decide) (by omega) e) (fun z232 h232 e232 => ?_) (fun _ h232 e232 => ?_)
                  · exact SxX.out (hX _) (fun q => by cases q; exact hr)
                  refine S_aload_n (dc_X9_single 124 rfl) rfl ?_
                  refine S_getJ (dc_X9_single 125 rfl) ho fl_X9_116_7_6 (fun _ _ => rfl) (fun x236 e236 => ?_)
                  refine S_lstore (L' := [some (.ref a0), none, none, none, none, some (.int x42), none, none, some (.long x236), none]) (dc_X9_single 126 rfl) rfl ?_
                  refine S_aload_n (dc_X9_single 127 rfl) rfl ?_
                  refine S_rwV (d := k_d K - 1) (e_callVU (b := a0) (x := ⟨"PegBands$SentenceReader", "next", "()V"⟩) (owner := "PegBands$Reader") (As := []) (rest := []) ok_X5_next rfl (Nat.le_of_ble_eq_true rfl) (dc_X9_single 128 rfl) ho q1257 q1258 (Or.inr ⟨rfl, q601⟩) (by decide) q601 rfl (show e_cl[7]? = some (RX9, TX9, 11) from rfl) (e_sel.of q1259) (e_fJ_of e236).1 rfl (Nat.le_of_ble_eq_true rfl)) (by omega) (fun _ e => ct_X5_next (by decide) (by omega) e) (fun h242 e242 => ?_)
                  refine S_newB (dc_X9_single 129 rfl) ho (show e_cl[11]? = some (RX14, TX14, 2) from rfl) (by decide) q1298 q1299 q131 (fun x245 h245 u245 w245 => ?_)
                  refine S_dup (dc_X9_single 130 rfl) rfl ?_
                  refine S_iload (dc_X9_single 131 rfl) rfl ?_
                  refine S_lload (dc_X9_single 132 rfl) rfl ?_
                  refine S_rwV (d := k_d K - 1) (e_callI (b := x245) (As := [.int x42, .long x236]) (rest := [.ref x245]) ok_X14_init rfl rfl rfl (Nat.le_of_ble_eq_true rfl) (dc_X9_single 133 rfl) ho q1300 q1301 rfl (Nat.le_of_ble_eq_true rfl)) (by omega) (fun _ e => ct_X14_init (by omega) e) (fun h253 e253 => ?_)
                  exact S_aret (dc_X9_single 134 rfl) hT (Or.inl ⟨_, rfl⟩) (fun q => by cases q; exact hr)
                · have hK10 : ∀ (s231_10 : Int32), Sx K cX9_single 231 [some (.ref a0), none, none, none, none, some (.int x42), none, none, none, none] [.int s231_10, .ref a0] h207 (some s231_10) Q10 := hK10
                  refine S_icmp_eq 230 (dc_X9_single 118 rfl) rfl (fun c223 => ?_) (fun c223 => ?_)
                  · refine S_iconst_ 0 (dc_X9_single 121 rfl) rfl ?_
                    refine Sx.cut [true, false, false, false, false, true, false, false, true, true] ?_
                    exact hK10 0
                  · refine S_iconst_ 1 (dc_X9_single 119 rfl) rfl ?_
                    refine S_goto 231 (dc_X9_single 120 rfl) rfl ?_
                    refine Sx.cut [true, false, false, false, false, true, false, false, true, true] ?_
                    exact hK10 1
            · refine S_newB (dc_X9_single 97 rfl) ho (show e_cl[10]? = some (RX13, TX13, 3) from rfl) (by decide) q1276 q1277 q130 (fun x184 h184 u184 w184 => ?_)
              refine S_dup (dc_X9_single 98 rfl) rfl ?_
              refine S_iconst_ 5 (dc_X9_single 99 rfl) rfl ?_
              refine S_bipush_ 62 (dc_X9_single 100 rfl) rfl ?_
              refine S_iconst_ 0 (dc_X9_single 101 rfl) rfl ?_
              refine S_rwV (d := k_d K - 1) (e_callI (b := x184) (As := [.int 5, .int 62, .int 0]) (rest := [.ref x184]) ok_X13_init rfl rfl rfl (Nat.le_of_ble_eq_true rfl) (dc_X9_single 102 rfl) ho q1278 q1279 rfl (Nat.le_of_ble_eq_true rfl)) (by omega) (fun _ e => ct_X13_init (by omega) e) (fun h192 e192 => ?_)
              exact S_aret (dc_X9_single 103 rfl) hT (Or.inl ⟨_, rfl⟩) (fun q => by cases q; exact hr)
          · refine S_aload_n (dc_X9_single 84 rfl) rfl ?_
            refine S_iload_n (dc_X9_single 85 rfl) rfl ?_
            refine S_iconst_ 1 (dc_X9_single 86 rfl) rfl ?_
            refine S_iadd (dc_X9_single 87 rfl) ?_
            refine Sx.ask (fun _ i165 => ?_)
            refine S_exA (d := k_d K - 1) (e_callV (b := a0) (As := [.int (a1 + 1)]) (rest := []) ok_X9_any rfl (Nat.le_of_ble_eq_true rfl) (dc_X9_single 88 rfl) ho q1228 q1230 (show e_cl[7]? = some (RX9, TX9, 11) from rfl) (e_sel.of qs32) (e_is_of i165) rfl (Nat.le_of_ble_eq_true rfl)) (by omega) (fun _ _ e => ct_X9_any (dS := dS) (hS := hS) hA (by omega) (by omega) e) (fun z165 h165 e165 => ?_) (fun x165 h165 e165 => ?_)
            · exact SxX.out (hX _) (fun q => by cases q; exact hr)
            refine S_astore (L' := [some (.ref a0), some (.int a1), some (.int x3), some (.int x10), some (.int s37_1), some (.int x42), some (.int x50), some (.int x60), some (.ref x165), none]) (dc_X9_single 89 rfl) rfl ?_
            refine S_aload_n (dc_X9_single 90 rfl) rfl ?_
            refine S_bipush_ 41 (dc_X9_single 91 rfl) rfl ?_
            refine Sx.ask (fun _ i173 => ?_)
            refine S_exV (d := k_d K - 1) (e_callVU (b := a0) (x := ⟨"PegBands$SentenceReader", "sign", "(I)V"⟩) (owner := "PegBands$Reader") (As := [.int 41]) (rest := []) ok_X5_sign rfl (Nat.le_of_ble_eq_true rfl) (dc_X9_single 92 rfl) ho q1273 q1274 (Or.inr ⟨rfl, q712⟩) (by decide) q712 rfl (show e_cl[7]? = some (RX9, TX9, 11) from rfl) (e_sel.of q1275) (e_is_of i173) rfl (Nat.le_of_ble_eq_true rfl)) (by omega) (fun _ _ e => ct_X5_sign (by decide) (by omega) e) (fun z173 h173 e173 => ?_) (fun _ h173 e173 => ?_)
            · exact SxX.out (hX _) (fun q => by cases q; exact hr)
            refine S_aload (dc_X9_single 93 rfl) rfl ?_
            exact S_aret (dc_X9_single 94 rfl) hT (Or.inl ⟨_, rfl⟩) (fun q => by cases q; exact hr)
        · refine S_newB (dc_X9_single 73 rfl) ho (show e_cl[9]? = some (RX12, TX12, 1) from rfl) (by decide) q1260 q1261 q129 (fun x142 h142 u142 w142 => ?_)
          refine S_dup (dc_X9_single 74 rfl) rfl ?_
          refine S_aload_n (dc_X9_single 75 rfl) rfl ?_
          refine S_iload_n (dc_X9_single 76 rfl) rfl ?_
          refine S_iconst_ 1 (dc_X9_single 77 rfl) rfl ?_
          refine S_iadd (dc_X9_single 78 rfl) ?_
          refine Sx.ask (fun _ i150 => ?_)
          refine S_exA (d := dS) (e_callV (b := a0) (As := [.int (a1 + 1)]) (rest := [.ref x142, .ref x142]) ok_X9_single rfl (Nat.le_of_ble_eq_true rfl) (dc_X9_single 79 rfl) ho q1236 q1238 (show e_cl[7]? = some (RX9, TX9, 11) from rfl) (e_sel.of qs34) (e_is_of i150) rfl (Nat.le_of_ble_eq_true rfl)) (by omega) (fun _ _ e => hS e) (fun z150 h150 e150 => ?_) (fun x150 h150 e150 => ?_)
          · exact SxX.out (hX _) (fun q => by cases q; exact hr)
          refine S_rwV (d := k_d K - 1) (e_callI (b := x142) (As := [.ref x150]) (rest := [.ref x142]) ok_X12_init rfl rfl rfl (Nat.le_of_ble_eq_true rfl) (dc_X9_single 80 rfl) ho q1262 q1263 rfl (Nat.le_of_ble_eq_true rfl)) (by omega) (fun _ e => ct_X12_init (by omega) e) (fun h153 e153 => ?_)
          exact S_aret (dc_X9_single 81 rfl) hT (Or.inl ⟨_, rfl⟩) (fun q => by cases q; exact hr)
      · have hK5 : ∀ (s120_5 : Int32), Sx K cX9_single 120 [some (.ref a0), some (.int a1), some (.int x3), some (.int x10), some (.int s37_1), some (.int x42), some (.int x50), some (.int x60), none, none] [.int s120_5, .ref a0] h96 (some s120_5) Q5 := hK5
        refine Sx.regKE0 (pc2 := 119) (L2 := [some (.ref a0), some (.int a1), some (.int x3), some (.int x10), some (.int s37_1), some (.int x42), some (.int x50), some (.int x60), none, none]) (st2 := [.ref a0]) (h2 := h96) ?_ (fun Q6 hK6 hE6 => ?_)
        · skip
          refine S_iconst_ 0 (dc_X9_single 60 rfl) rfl ?_
          exact hK5 0
        · have hK6 : Sx K cX9_single 119 [some (.ref a0), some (.int a1), some (.int x3), some (.int x10), some (.int s37_1), some (.int x42), some (.int x50), some (.int x60), none, none] [.ref a0] h96 (some (.ok ())) Q6 := hK6
          refine S_icmp_ge 119 (dc_X9_single 54 rfl) rfl (fun c106 => ?_) (fun c106 => ?_)
          · exact hK6
          · refine S_iload_n (dc_X9_single 55 rfl) rfl ?_
            refine S_bipush_ 8 (dc_X9_single 56 rfl) rfl ?_
            refine S_icmp_gt 119 (dc_X9_single 57 rfl) rfl (fun c112 => ?_) (fun c112 => ?_)
            · exact hK6
            · refine S_iconst_ 1 (dc_X9_single 58 rfl) rfl ?_
              refine S_goto 120 (dc_X9_single 59 rfl) rfl ?_
              refine Sx.err hE6 ?_
              exact hK5 1
    · have hK3 : ∀ (s95_3 : Int32), Sx K cX9_single 95 [some (.ref a0), some (.int a1), some (.int x3), some (.int x10), some (.int s37_1), some (.int x42), some (.int x50), some (.int x60), none, none] [.int s95_3, .ref a0] h (some s95_3) Q3 := hK3
      refine Sx.regKE0 (pc2 := 90) (L2 := [some (.ref a0), some (.int a1), some (.int x3), some (.int x10), some (.int s37_1), some (.int x42), some (.int x50), some (.int x60), none, none]) (st2 := [.ref a0]) (h2 := h) ?_ (fun Q4 hK4 hE4 => ?_)
      · skip
        refine S_iconst_ 1 (dc_X9_single 45 rfl) rfl ?_
        refine S_goto 95 (dc_X9_single 46 rfl) rfl ?_
        exact hK3 1
      · have hK4 : Sx K cX9_single 90 [some (.ref a0), some (.int a1), some (.int x3), some (.int x10), some (.int s37_1), some (.int x42), some (.int x50), some (.int x60), none, none] [.ref a0] h (some (.ok ())) Q4 := hK4
        refine S_if_ne 90 (dc_X9_single 35 rfl) rfl (fun c67 => ?_) (fun c67 => ?_)
        · exact hK4
        · refine S_iload_n (dc_X9_single 36 rfl) rfl ?_
          refine S_if_ne 90 (dc_X9_single 37 rfl) rfl (fun c71 => ?_) (fun c71 => ?_)
          · exact hK4
          · refine S_iload (dc_X9_single 38 rfl) rfl ?_
            refine S_if_ne 90 (dc_X9_single 39 rfl) rfl (fun c76 => ?_) (fun c76 => ?_)
            · exact hK4
            · refine S_iload (dc_X9_single 40 rfl) rfl ?_
              refine S_if_ne 90 (dc_X9_single 41 rfl) rfl (fun c81 => ?_) (fun c81 => ?_)
              · exact hK4
              · refine S_iload (dc_X9_single 42 rfl) rfl ?_
                refine S_iconst_ (-1) (dc_X9_single 43 rfl) rfl ?_
                refine S_icmp_eq 94 (dc_X9_single 44 rfl) rfl (fun c87 => ?_) (fun c87 => ?_)
                · refine S_iconst_ 0 (dc_X9_single 47 rfl) rfl ?_
                  refine Sx.err hE4 ?_
                  exact hK3 0
                · exact hK4
  · have hK1 : ∀ (s37_1 : Int32), Sx K cX9_single 37 [some (.ref a0), some (.int a1), some (.int x3), some (.int x10), none, none, none, none, none, none] [.int s37_1] h (some s37_1) Q1 := hK1
    refine Sx.regKE0 (pc2 := 32) (L2 := [some (.ref a0), some (.int a1), some (.int x3), some (.int x10), none, none, none, none, none, none]) (st2 := []) (h2 := h) ?_ (fun Q2 hK2 hE2 => ?_)
    · skip
      refine S_iconst_ 1 (dc_X9_single 16 rfl) rfl ?_
      refine S_goto 37 (dc_X9_single 17 rfl) rfl ?_
      exact hK1 1
    · have hK2 : Sx K cX9_single 32 [some (.ref a0), some (.int a1), some (.int x3), some (.int x10), none, none, none, none, none, none] [] h (some (.ok ())) Q2 := hK2
      refine S_if_ne 32 (dc_X9_single 11 rfl) rfl (fun c20 => ?_) (fun c20 => ?_)
      · exact hK2
      · refine S_aload_n (dc_X9_single 12 rfl) rfl ?_
        refine S_ldcS (j := 10) hA (dc_X9_single 13 rfl) ho (List.mem_of_getElem? (i := 30) rfl) ?_
        refine S_roI (d := k_d K - 1) (e_callVU (b := a0) (x := ⟨"PegBands$SentenceReader", "is", "(Ljava/lang/String;)Z"⟩) (owner := "PegBands$Reader") (As := [.ref (A 10)]) (rest := []) ok_X5_is rfl (Nat.le_of_ble_eq_true rfl) (dc_X9_single 14 rfl) ho q1241 q1242 (Or.inr ⟨rfl, q634⟩) (by decide) q634 rfl (show e_cl[7]? = some (RX9, TX9, 11) from rfl) (e_sel.of q1243) (e_is_of i3) rfl (Nat.le_of_ble_eq_true rfl)) (by omega) (fun _ e => ct_X5_is (by decide) hA (by omega) e) (fun x26 e26 => ?_)
        refine S_if_eq 36 (dc_X9_single 15 rfl) rfl (fun c29 => ?_) (fun c29 => ?_)
        · refine S_iconst_ 0 (dc_X9_single 18 rfl) rfl ?_
          refine Sx.err hE2 ?_
          exact hK1 0
        · exact hK2
def f_X9_single (F : Nat) (A : Nat → Nat) : Nat → e_H → Nat → Int32 → Option (Except (Nat × Nat) Nat × e_H)
  | 0, _, _, _ => none
  | n + 1, h, a0, a1 => fb_X9_single F A (f_X9_single F A n) h a0 a1
theorem ct_X9_single {l : Launch} {D : e_D} {B : Heap} {F : Nat} {A : Nat → Nat} (n : Nat) : ∀ {d : Nat} {h : e_H} {a0 : Nat} {a1 : Int32} {o : Except (Nat × Nat) Nat} {h1 : e_H} (hA : D.2.2.1 = A) (hd : 8 * n + 20 ≤ d) (e : f_X9_single F A n h a0 a1 = some (o, h1)), e_Run l D B d mX9_single [.ref a0, .int a1] h (o.map (fun v => some (.ref v)), h1) := by
  induction n with
  | zero => intros; rename_i e; cases e
  | succ n ih => intros; rename_i hA hd e; exact cb_X9_single (dS := 8 * n + 20) (fun e => ih hA (Nat.le_refl _) e) hA (by omega) (by omega) e
abbrev cX9_read : ByteArray := prog_16_method_2_code
def yX9_read : MethodName := ⟨"PegBands$SentenceReader", "read", "()LPegBands$Cond;"⟩
def tb_X9_read : List (Nat × Instr × Nat) := [(0, .aload_n 0, 1), (1, .iconst 0, 1), (2, .putfield 31, 3), (5, .aload_n 0, 1), (6, .invokevirtual 35, 3), (9, .aload_n 0, 1), (10, .iconst 1, 1), (11, .invokevirtual 39, 3), (14, .astore_n 1, 1), (15, .aload_n 0, 1), (16, .aload_n 0, 1), (17, .getfield 43, 3), (20, .ifCond .ne 7, 3), (23, .iconst 1, 1), (24, .goto 4, 3), (27, .iconst 0, 1), (28, .iconst 1, 1), (29, .invokevirtual 46, 3), (32, .aload_n 1, 1), (33, .areturn, 1)]
theorem tk_X9_read : ∀ q ∈ tb_X9_read, decode cX9_read q.1 = .ok q.2 := by decide +kernel
theorem dc_X9_read (k : Nat) {pc n : Nat} {i : Instr} (h : tb_X9_read[k]? = some (pc, i, n)) : decode cX9_read pc = .ok (i, n) := tk_X9_read (pc, i, n) (List.mem_of_getElem? h)
abbrev mX9_read : e_M := (yX9_read, cX9_read, 2, some (.object "PegBands$Cond"), [])
theorem ok_X9_read : e_mok mX9_read 0 := ⟨q1224, q118, by decide +kernel, fun sig h => by cases h; rfl⟩
def f_X9_read (F : Nat) (A : Nat → Nat) (h : e_H) (a0 : Nat) : Option (Except (Nat × Nat) Nat × e_H) :=
  Option.bind (e_gI h a0 7 9 0) (fun h2 =>
  Option.bind (e_is h2 a0 7) (fun _ =>
  Option.bind (f_X5_begin F 7 h2 a0) (fun h6 =>
  Option.bind (e_is h6 a0 7) (fun _ =>
  e_b3 (f_X9_any F A (f_X9_single F A 32) h6 a0 1) (fun z11 h11 =>
      some (.error z11, h11)) (fun x11 h11 =>
  Option.bind (e_fI h11 a0 7 3) (fun x17 =>
  Option.bind (
      if x17 = 0 then
        some 1
      else
        some 0
    : Option (Int32)) (fun s28_1 =>
  e_b3 (f_X5_must 7 h11 a0 s28_1 1) (fun z29 h29 =>
      some (.error z29, h29)) (fun _ h29 =>
  some (.ok x11, h29)))))))))
set_option maxHeartbeats 4000000 in
set_option maxRecDepth 100000 in
theorem ct_X9_read {l : Launch} {D : e_D} {B : Heap} {F : Nat} {A : Nat → Nat} {d : Nat} {h : e_H} {a0 : Nat} {o : Except (Nat × Nat) Nat} {h1 : e_H} (hA : D.2.2.1 = A) (hd : 283 ≤ d) (e : f_X9_read F A h a0 = some (o, h1)) : e_Run l D B d mX9_read [.ref a0] h (o.map (fun v => some (.ref v)), h1) := by
  refine e_start [some (.ref a0), none] (by decide) rfl rfl rfl (Nat.le_of_ble_eq_true rfl) (fun K hl0 hD0 hB0 hM hd0 hr => ?_)
  subst hl0 hD0 hB0 hd0
  have ho : (k_M K).1.cls = "PegBands$SentenceReader" := by rw [hM]; rfl
  have hT : (k_M K).2.2.2.1 = some (.object "PegBands$Cond") := by rw [hM]
  have hX : ∀ pc, ∀ z ∈ tableOf (k_M K).2.2.2.2, covers z pc = false := by rw [hM]; intro pc z hz; cases hz
  refine (show Sx K cX9_read 0 [some (.ref a0), none] [] h (f_X9_read F A h a0) (fun w => w = (o, h1)) from ?_) _ e rfl
  clear e
  unfold f_X9_read
  refine S_aload_n (dc_X9_read 0 rfl) rfl ?_
  refine S_iconst_ 0 (dc_X9_read 1 rfl) rfl ?_
  refine S_putI (dc_X9_read 2 rfl) ho fl_X9_31_7_9 (fun _ _ => rfl) (Or.inl rfl) rfl rfl (fun h2 e2 => ?_)
  refine S_aload_n (dc_X9_read 3 rfl) rfl ?_
  refine Sx.ask (fun _ i6 => ?_)
  refine S_rwV (d := k_d K - 1) (e_callVU (b := a0) (x := ⟨"PegBands$SentenceReader", "begin", "()V"⟩) (owner := "PegBands$Reader") (As := []) (rest := []) ok_X5_begin rfl (Nat.le_of_ble_eq_true rfl) (dc_X9_read 4 rfl) ho q1225 q1226 (Or.inr ⟨rfl, q598⟩) (by decide) q598 rfl (show e_cl[7]? = some (RX9, TX9, 11) from rfl) (e_sel.of q1227) (e_is_of i6) rfl (Nat.le_of_ble_eq_true rfl)) (by omega) (fun _ e => ct_X5_begin (by decide) (by omega) e) (fun h6 e6 => ?_)
  refine S_aload_n (dc_X9_read 5 rfl) rfl ?_
  refine S_iconst_ 1 (dc_X9_read 6 rfl) rfl ?_
  refine Sx.ask (fun _ i11 => ?_)
  refine S_exA (d := k_d K - 1) (e_callV (b := a0) (As := [.int 1]) (rest := []) ok_X9_any rfl (Nat.le_of_ble_eq_true rfl) (dc_X9_read 7 rfl) ho q1228 q1230 (show e_cl[7]? = some (RX9, TX9, 11) from rfl) (e_sel.of qs32) (e_is_of i11) rfl (Nat.le_of_ble_eq_true rfl)) (by omega) (fun _ _ e => ct_X9_any (dS := 8 * 32 + 20) (hS := fun e => ct_X9_single 32 hA (by omega) e) hA (by omega) (by omega) e) (fun z11 h11 e11 => ?_) (fun x11 h11 e11 => ?_)
  · exact SxX.out (hX _) (fun q => by cases q; exact hr)
  refine S_astore_n (L' := [some (.ref a0), some (.ref x11)]) (dc_X9_read 8 rfl) rfl ?_
  refine S_aload_n (dc_X9_read 9 rfl) rfl ?_
  refine S_aload_n (dc_X9_read 10 rfl) rfl ?_
  refine S_getI (dc_X9_read 11 rfl) ho fl_X9_43_7_3 (fun _ _ => rfl) (fun x17 e17 => ?_)
  refine Sx.regK1 (pc2 := 28) (L2 := fun (s28_1 : Int32) => [none, some (.ref x11)]) (st2 := fun (s28_1 : Int32) => [.int s28_1, .ref a0]) (h2 := fun (s28_1 : Int32) => h11) ?_ (fun Q1 hK1 => ?_)
  · intro s28_1
    show Sx K cX9_read 28 [none, some (.ref x11)] [.int s28_1, .ref a0] h11 _ _
    refine S_iconst_ 1 (dc_X9_read 16 rfl) rfl ?_
    refine S_exV (d := k_d K - 1) (e_callVU (b := a0) (x := ⟨"PegBands$SentenceReader", "must", "(ZI)V"⟩) (owner := "PegBands$Reader") (As := [.int s28_1, .int 1]) (rest := []) ok_X5_must rfl (Nat.le_of_ble_eq_true rfl) (dc_X9_read 17 rfl) ho q1254 q1255 (Or.inr ⟨rfl, q689⟩) (by decide) q689 rfl (show e_cl[7]? = some (RX9, TX9, 11) from rfl) (e_sel.of q1256) (e_fI_of e17).1 rfl (Nat.le_of_ble_eq_true rfl)) (by omega) (fun _ _ e => ct_X5_must (by decide) (by omega) e) (fun z29 h29 e29 => ?_) (fun _ h29 e29 => ?_)
    · exact SxX.out (hX _) (fun q => by cases q; exact hr)
    refine S_aload_n (dc_X9_read 18 rfl) rfl ?_
    exact S_aret (dc_X9_read 19 rfl) hT (Or.inl ⟨_, rfl⟩) (fun q => by cases q; exact hr)
  · have hK1 : ∀ (s28_1 : Int32), Sx K cX9_read 28 [none, some (.ref x11)] [.int s28_1, .ref a0] h11 (some s28_1) Q1 := hK1
    refine S_if_ne 27 (dc_X9_read 12 rfl) rfl (fun c20 => ?_) (fun c20 => ?_)
    · refine S_iconst_ 0 (dc_X9_read 15 rfl) rfl ?_
      refine Sx.cut [false, true] ?_
      exact hK1 0
    · refine S_iconst_ 1 (dc_X9_read 13 rfl) rfl ?_
      refine S_goto 28 (dc_X9_read 14 rfl) rfl ?_
      refine Sx.cut [false, true] ?_
      exact hK1 1
abbrev cX1_sentence : ByteArray := prog_1_method_81_code
def yX1_sentence : MethodName := ⟨"PegBands", "sentence", "()I"⟩
def tb_X1_sentence : List (Nat × Instr × Nat) := [(0, .aload_n 0, 1), (1, .invokevirtual 199, 3), (4, .aload_n 0, 1), (5, .iconst 0, 1), (6, .putfield 202, 3), (9, .aload_n 0, 1), (10, .aload_n 0, 1), (11, .getfield 143, 3), (14, .invokevirtual 460, 3), (17, .putfield 218, 3), (20, .aload_n 0, 1), (21, .getfield 143, 3), (24, .getfield 463, 3), (27, .ireturn, 1), (28, .astore_n 1, 1), (29, .aload_n 0, 1), (30, .aload_n 1, 1), (31, .getfield 222, 3), (34, .putfield 202, 3), (37, .iconst (-1), 1), (38, .aload_n 1, 1), (39, .getfield 225, 3), (42, .isub, 1), (43, .ireturn, 1)]
theorem tk_X1_sentence : ∀ q ∈ tb_X1_sentence, decode cX1_sentence q.1 = .ok q.2 := by decide +kernel
theorem dc_X1_sentence (k : Nat) {pc n : Nat} {i : Instr} (h : tb_X1_sentence[k]? = some (pc, i, n)) : decode cX1_sentence pc = .ok (i, n) := tk_X1_sentence (pc, i, n) (List.mem_of_getElem? h)
abbrev mX1_sentence : e_M := (yX1_sentence, cX1_sentence, 2, some (.int), [(9, 27, 28, 13)])
theorem ok_X1_sentence : e_mok mX1_sentence 0 := ⟨q1220, q108, by decide +kernel, fun sig h => by cases h; rfl⟩
theorem fl_X1_463_7_9 : e_FL "PegBands" 463 7 9 := ⟨_, rfl, by decide, Or.inr (Or.inr (Or.inl ⟨_, q431⟩))⟩
def f_X1_sentence (F : Nat) (A : Nat → Nat) (h : e_H) (a0 : Nat) : Option (Int32 × e_H) :=
  Option.bind (e_is h a0 0) (fun _ =>
  Option.bind (f_X1_taken h a0) (fun h1 =>
  Option.bind (e_gI h1 a0 0 11 0) (fun h6 =>
  Option.bind (e_fA h6 a0 0 34) (fun x11 =>
  Option.bind (e_is h6 x11 7) (fun _ =>
  e_b3 (f_X9_read F A h6 x11) (fun z14 h14 =>
      if z14.1 = 0 then
        Option.bind (e_fI h14 z14.2 1 6) (fun x31 =>
        Option.bind (e_gI h14 a0 0 11 x31) (fun h34 =>
        Option.bind (e_fI h34 z14.2 1 7) (fun x39 =>
        some (((-1) - x39), h34))))
      else none) (fun x14 h14 =>
  Option.bind (e_gR h14 a0 0 35 (some x14)) (fun h17 =>
  Option.bind (e_fA h17 a0 0 34) (fun x21 =>
  Option.bind (e_fI h17 x21 7 9) (fun x24 =>
  some (x24, h17))))))))))
set_option maxHeartbeats 4000000 in
set_option maxRecDepth 100000 in
theorem ct_X1_sentence {l : Launch} {D : e_D} {B : Heap} {F : Nat} {A : Nat → Nat} {d : Nat} {h : e_H} {a0 : Nat} {v : Int32} {h1 : e_H} (hA : D.2.2.1 = A) (hd : 284 ≤ d) (e : f_X1_sentence F A h a0 = some (v, h1)) : e_Run l D B d mX1_sentence [.ref a0] h (.ok (some (.int v)), h1) := by
  refine e_startW [some (.ref a0), none] (by decide) rfl rfl rfl (Nat.le_of_ble_eq_true rfl) (fun K hl0 hD0 hB0 hM hd0 hr => ?_)
  subst hl0 hD0 hB0 hd0
  have ho : (k_M K).1.cls = "PegBands" := by rw [hM]; rfl
  have hT : (k_M K).2.2.2.1 = some (.int) := by rw [hM]
  refine (show Sx K cX1_sentence 0 [some (.ref a0), none] [] h (f_X1_sentence F A h a0) (fun w => w = (v, h1)) from ?_) _ e rfl
  clear e
  unfold f_X1_sentence
  refine S_aload_n (dc_X1_sentence 0 rfl) rfl ?_
  refine Sx.ask (fun _ i1 => ?_)
  refine S_rwV (d := k_d K - 1) (e_callV (b := a0) (As := []) (rest := []) ok_X1_taken rfl (Nat.le_of_ble_eq_true rfl) (dc_X1_sentence 1 rfl) ho q586 q588 (show e_cl[0]? = some (RX1, TX1, 37) from rfl) (e_sel.of qs2) (e_is_of i1) rfl (Nat.le_of_ble_eq_true rfl)) (by omega) (fun _ e => ct_X1_taken (by omega) e) (fun h1 e1 => ?_)
  refine S_aload_n (dc_X1_sentence 2 rfl) rfl ?_
  refine S_iconst_ 0 (dc_X1_sentence 3 rfl) rfl ?_
  refine S_putI (dc_X1_sentence 4 rfl) ho fl_X1_202_0_11 (fun _ _ => rfl) (Or.inl rfl) rfl rfl (fun h6 e6 => ?_)
  refine S_aload_n (dc_X1_sentence 5 rfl) rfl ?_
  refine S_aload_n (dc_X1_sentence 6 rfl) rfl ?_
  refine S_getA (dc_X1_sentence 7 rfl) ho fl_X1_143_0_34 (fun _ _ => rfl) (fun x11 e11 => ?_)
  refine Sx.ask (fun _ i14 => ?_)
  refine S_exA (d := k_d K - 1) (e_callV (b := x11) (As := []) (rest := [.ref a0]) ok_X9_read rfl (Nat.le_of_ble_eq_true rfl) (dc_X1_sentence 8 rfl) ho q1221 q1222 (show e_cl[7]? = some (RX9, TX9, 11) from rfl) (e_sel.of q1223) (e_is_of i14) rfl (Nat.le_of_ble_eq_true rfl)) (by omega) (fun _ _ e => ct_X9_read hA (by omega) e) (fun z14 h14 e14 => ?_) (fun x14 h14 e14 => ?_)
  · refine SxX.cond (fun k14 => ?_)
    refine SxX.catch [] ⟨9, 27, 28, 13⟩ [] ho (by rw [hM]; rfl) (fun _ h => by cases h) (by decide) (by decide) q143 (by rw [k14]; exact q145) ?_
    refine S_astore_n (L' := [some (.ref a0), some (.ref z14.2)]) (dc_X1_sentence 14 rfl) rfl ?_
    refine S_aload_n (dc_X1_sentence 15 rfl) rfl ?_
    refine S_aload_n (dc_X1_sentence 16 rfl) rfl ?_
    refine S_getI (dc_X1_sentence 17 rfl) ho fl_X1_222_1_6 (fun _ _ => rfl) (fun x31 e31 => ?_)
    refine S_putI (dc_X1_sentence 18 rfl) ho fl_X1_202_0_11 (fun _ _ => rfl) (Or.inl rfl) rfl rfl (fun h34 e34 => ?_)
    refine S_iconst_ (-1) (dc_X1_sentence 19 rfl) rfl ?_
    refine S_aload_n (dc_X1_sentence 20 rfl) rfl ?_
    refine S_getI (dc_X1_sentence 21 rfl) ho fl_X1_225_1_7 (fun _ _ => rfl) (fun x39 e39 => ?_)
    refine S_isub (dc_X1_sentence 22 rfl) ?_
    exact S_iret (dc_X1_sentence 23 rfl) hT rfl (e_rqI hr)
  refine S_putR (v := (some x14)) (dc_X1_sentence 9 rfl) ho fl_X1_218_0_35 (fun _ _ => rfl) (Or.inl rfl) rfl (fun h17 e17 => ?_)
  refine S_aload_n (dc_X1_sentence 10 rfl) rfl ?_
  refine S_getA (dc_X1_sentence 11 rfl) ho fl_X1_143_0_34 (fun _ _ => rfl) (fun x21 e21 => ?_)
  refine S_getI (dc_X1_sentence 12 rfl) ho fl_X1_463_7_9 (fun _ _ => rfl) (fun x24 e24 => ?_)
  exact S_iret (dc_X1_sentence 13 rfl) hT rfl (e_rqI hr)
def f_disp (F : Nat) : Nat → e_H → Nat → Nat → Int32 → Option (Int32 × e_H)
  | 0, _, _, _, _ => none
  | n + 1, h, a0, a1, a2 => match e_k h a0 with
    | some (.inl 13) => f_X16_is F (f_disp F n) h a0 a1 a2
    | some (.inl 12) => f_X15_is F (f_disp F n) h a0 a1 a2
    | some (.inl 9) => f_X12_is F (f_disp F n) h a0 a1 a2
    | some (.inl 11) => f_X14_is F h a0 a1 a2
    | some (.inl 10) => (f_X13_is F h a0 a1 a2).map fun v => (v, h)
    | _ => none
theorem ct_disp {l : Launch} {D : e_D} {B : Heap} {F : Nat} (n : Nat) : ∀ {d : Nat} {h : e_H} {a0 a1 : Nat} {a2 v : Int32} {h1 : e_H} (hd : 8 * n + 289 ≤ d) (e : f_disp F n h a0 a1 a2 = some (v, h1)), e_Disp l D B d h a0 a1 a2 v h1 := by
  induction n with
  | zero => intros; rename_i e; cases e
  | succ n ih =>
    intro d h a0 a1 a2 v h1 hd e
    rw [f_disp.eq_2] at e
    split at e
    · rename_i hk
      exact ⟨13, mX16_is, (RX16, TX16, 2), hk, rfl, e_sel.of q1346, ok_X16_is, rfl, Nat.le_of_ble_eq_true rfl, q1347, rfl, ct_X16_is (dS := 8 * n + 289) (hS := fun e => ih (Nat.le_refl _) e) (by omega) (by omega) e⟩
    · rename_i hk
      exact ⟨12, mX15_is, (RX15, TX15, 2), hk, rfl, e_sel.of q1375, ok_X15_is, rfl, Nat.le_of_ble_eq_true rfl, q1350, rfl, ct_X15_is (dS := 8 * n + 289) (hS := fun e => ih (Nat.le_refl _) e) (by omega) (by omega) e⟩
    · rename_i hk
      exact ⟨9, mX12_is, (RX12, TX12, 1), hk, rfl, e_sel.of q1378, ok_X12_is, rfl, Nat.le_of_ble_eq_true rfl, q1372, rfl, ct_X12_is (dS := 8 * n + 289) (hS := fun e => ih (Nat.le_refl _) e) (by omega) (by omega) e⟩
    · rename_i hk
      exact ⟨11, mX14_is, (RX14, TX14, 2), hk, rfl, e_sel.of q1377, ok_X14_is, rfl, Nat.le_of_ble_eq_true rfl, q1368, rfl, ct_X14_is (by omega) e⟩
    · rename_i hk
      rw [Option.map_eq_some_iff] at e
      obtain ⟨w, e, ew⟩ := e
      cases ew
      exact ⟨10, mX13_is, (RX13, TX13, 3), hk, rfl, e_sel.of q1376, ok_X13_is, rfl, Nat.le_of_ble_eq_true rfl, q1353, rfl, ct_X13_is (by omega) e⟩
    · cases e
abbrev cX1_said : ByteArray := prog_1_method_82_code
def yX1_said : MethodName := ⟨"PegBands", "said", "(I)I"⟩
def tb_X1_said : List (Nat × Instr × Nat) := [(0, .aload_n 0, 1), (1, .getfield 218, 3), (4, .ifnull 8, 3), (7, .iload_n 1, 1), (8, .iconst (-1), 1), (9, .if_icmp .ge 5, 3), (12, .iconst (-1), 1), (13, .ireturn, 1), (14, .iconst 0, 1), (15, .istore_n 2, 1), (16, .iconst 0, 1), (17, .istore_n 3, 1), (18, .iload_n 3, 1), (19, .aload_n 0, 1), (20, .getfield 63, 3), (23, .getfield 234, 3), (26, .if_icmp .ge 34, 3), (29, .aload_n 0, 1), (30, .getfield 218, 3), (33, .aload_n 0, 1), (34, .iload_n 3, 1), (35, .invokevirtual 466, 3), (38, .ifCond .ne 6, 3), (41, .goto 13, 3), (44, .iload_n 2, 1), (45, .iload_n 1, 1), (46, .if_icmp .ne 5, 3), (49, .iload_n 3, 1), (50, .ireturn, 1), (51, .iinc 2 1, 3), (54, .iinc 3 1, 3), (57, .goto (-39), 3), (60, .iload_n 1, 1), (61, .iconst (-1), 1), (62, .if_icmp .ne 7, 3), (65, .iload_n 2, 1), (66, .goto 4, 3), (69, .iconst (-1), 1), (70, .ireturn, 1)]
theorem tk_X1_said : ∀ q ∈ tb_X1_said, decode cX1_said q.1 = .ok q.2 := by decide +kernel
theorem dc_X1_said (k : Nat) {pc n : Nat} {i : Instr} (h : tb_X1_said[k]? = some (pc, i, n)) : decode cX1_said pc = .ok (i, n) := tk_X1_said (pc, i, n) (List.mem_of_getElem? h)
abbrev mX1_said : e_M := (yX1_said, cX1_said, 4, some (.int), [])
theorem ok_X1_said : e_mok mX1_said 1 := ⟨q1342, q108, by decide +kernel, fun sig h => by cases h; rfl⟩
def lp_X1_said_18 (F : Nat) (a0 : Nat) (a1 : Int32) : Nat → Int32 → Int32 → e_H → Option (Except (Int32 × e_H) (Int32 × e_H))
  | 0, _, _, _ => none
  | n + 1, x2_18, x3_18, h_18 =>
    Option.bind (e_fA h_18 a0 0 6) (fun x20 =>
    Option.bind (e_fI h_18 x20 2 4) (fun x23 =>
    if x23 ≤ x3_18 then
      some (.ok (x2_18, h_18))
    else
      Option.bind (e_fA h_18 a0 0 35) (fun x30 =>
      e_b2 (f_disp F 32 h_18 x30 a0 x3_18) (fun x35 h35 =>
      e_bE (
          if x35 = 0 then
            some (.ok x2_18)
          else
            if x2_18 = a1 then
              some (.error (.error (x3_18, h35)))
            else
              Option.bind (some (x2_18 + 1)) (fun x51 =>
              some (.ok x51))
        : Option (Except (Except (Int32 × e_H) (Int32 × e_H)) Int32)) (fun x2_54_2 =>
      Option.bind (some (x3_18 + 1)) (fun x54 =>
      lp_X1_said_18 F a0 a1 n x2_54_2 x54 h35))))))
def f_X1_said (F : Nat) (h : e_H) (a0 : Nat) (a1 : Int32) : Option (Int32 × e_H) :=
  Option.bind (e_fR h a0 0 35) (fun x1 =>
  (match x1 with
  | none =>
    some ((-1), h)
  | some _ =>
    if (-1) ≤ a1 then
      e_bE (
          lp_X1_said_18 F a0 a1 F 0 0 h
        : Option (Except (Int32 × e_H) (Int32 × e_H))) (e_u2 (fun x2_60_1 h60_1 =>
      if a1 = (-1) then
        some (x2_60_1, h60_1)
      else
        some ((-1), h60_1)))
    else
      some ((-1), h)))
set_option maxHeartbeats 4000000 in
set_option maxRecDepth 100000 in
theorem ct_X1_said {l : Launch} {D : e_D} {B : Heap} {F : Nat} {d : Nat} {h : e_H} {a0 : Nat} {a1 : Int32} {v : Int32} {h1 : e_H} (hd : 547 ≤ d) (e : f_X1_said F h a0 a1 = some (v, h1)) : e_Run l D B d mX1_said [.ref a0, .int a1] h (.ok (some (.int v)), h1) := by
  refine e_start [some (.ref a0), some (.int a1), none, none] (by decide) rfl rfl rfl (Nat.le_of_ble_eq_true rfl) (fun K hl0 hD0 hB0 hM hd0 hr => ?_)
  subst hl0 hD0 hB0 hd0
  have ho : (k_M K).1.cls = "PegBands" := by rw [hM]; rfl
  have hT : (k_M K).2.2.2.1 = some (.int) := by rw [hM]
  refine (show Sx K cX1_said 0 [some (.ref a0), some (.int a1), none, none] [] h (f_X1_said F h a0 a1) (fun w => w = (v, h1)) from ?_) _ e rfl
  clear e
  unfold f_X1_said
  refine S_aload_n (dc_X1_said 0 rfl) rfl ?_
  refine S_getR (dc_X1_said 1 rfl) ho fl_X1_218_0_35 (fun _ _ => rfl) (fun x1 e1 => ?_)
  refine S_ifnull 12 (dc_X1_said 2 rfl) rfl (?_) (fun _ n4 => ?_)
  · refine S_iconst_ (-1) (dc_X1_said 6 rfl) rfl ?_
    exact S_iret (dc_X1_said 7 rfl) hT rfl (e_rqI hr)
  · refine S_iload_n (dc_X1_said 3 rfl) rfl ?_
    refine S_iconst_ (-1) (dc_X1_said 4 rfl) rfl ?_
    refine S_icmp_ge 14 (dc_X1_said 5 rfl) rfl (fun c9 => ?_) (fun c9 => ?_)
    · refine S_iconst_ 0 (dc_X1_said 8 rfl) rfl ?_
      refine S_istore_n (L' := [some (.ref a0), some (.int a1), some (.int 0), none]) (dc_X1_said 9 rfl) rfl ?_
      refine S_iconst_ 0 (dc_X1_said 10 rfl) rfl ?_
      refine S_istore_n (L' := [some (.ref a0), some (.int a1), some (.int 0), some (.int 0)]) (dc_X1_said 11 rfl) rfl ?_
      refine Sx.regKE2 (pc2 := 60) (L2 := fun (x2_60_1 : Int32) (h60_1 : e_H) => [none, some (.int a1), some (.int x2_60_1), none]) (st2 := fun (x2_60_1 : Int32) (h60_1 : e_H) => []) (h2 := fun (x2_60_1 : Int32) (h60_1 : e_H) => h60_1) ?_ (fun Q1 hK1 hE1 => ?_)
      · intro x2_60_1 h60_1
        show Sx K cX1_said 60 [none, some (.int a1), some (.int x2_60_1), none] [] h60_1 _ _
        refine S_iload_n (dc_X1_said 32 rfl) rfl ?_
        refine S_iconst_ (-1) (dc_X1_said 33 rfl) rfl ?_
        refine S_icmp_ne 69 (dc_X1_said 34 rfl) rfl (fun c62 => ?_) (fun c62 => ?_)
        · refine S_iconst_ (-1) (dc_X1_said 37 rfl) rfl ?_
          exact S_iret (dc_X1_said 38 rfl) hT rfl (e_rqI hr)
        · refine S_iload_n (dc_X1_said 35 rfl) rfl ?_
          refine S_goto 70 (dc_X1_said 36 rfl) rfl ?_
          exact S_iret (dc_X1_said 38 rfl) hT rfl (e_rqI hr)
      · have hK1 : ∀ (x2_60_1 : Int32) (h60_1 : e_H), Sx K cX1_said 60 [none, some (.int a1), some (.int x2_60_1), none] [] h60_1 (some (.ok (x2_60_1, h60_1))) Q1 := hK1
        have ih1 : ∀ (n : Nat) (x2_18 : Int32) (x3_18 : Int32) (h_18 : e_H), Sx K cX1_said 18 [some (.ref a0), some (.int a1), some (.int x2_18), some (.int x3_18)] [] h_18 (lp_X1_said_18 F a0 a1 n x2_18 x3_18 h_18) Q1 := by
          intro n
          induction n with
          | zero => intro x2_18 x3_18 h_18; exact Sx.none
          | succ n ih1 =>
            intro x2_18 x3_18 h_18
            rw [lp_X1_said_18.eq_2]
            refine S_iload_n (dc_X1_said 12 rfl) rfl ?_
            refine S_aload_n (dc_X1_said 13 rfl) rfl ?_
            refine S_getA (dc_X1_said 14 rfl) ho fl_X1_63_0_6 (fun _ _ => rfl) (fun x20 e20 => ?_)
            refine S_getI (dc_X1_said 15 rfl) ho fl_X1_234_2_4 (fun _ _ => rfl) (fun x23 e23 => ?_)
            refine S_icmp_ge 60 (dc_X1_said 16 rfl) rfl (fun c26 => ?_) (fun c26 => ?_)
            · refine Sx.cut [false, true, true, false] ?_
              exact hK1 x2_18 h_18
            · refine S_aload_n (dc_X1_said 17 rfl) rfl ?_
              refine S_getA (dc_X1_said 18 rfl) ho fl_X1_218_0_35 (fun _ _ => rfl) (fun x30 e30 => ?_)
              refine S_aload_n (dc_X1_said 19 rfl) rfl ?_
              refine S_iload_n (dc_X1_said 20 rfl) rfl ?_
              refine S_disp (rest := []) (d := 8 * 32 + 289) (dc_X1_said 21 rfl) ho q1343 (by omega) (Nat.le_of_ble_eq_true rfl) (fun e => ct_disp 32 (by omega) e) (fun x35 h35 e35 => ?_)
              refine Sx.regKE1 (pc2 := 54) (L2 := fun (x2_54_2 : Int32) => [some (.ref a0), some (.int a1), some (.int x2_54_2), some (.int x3_18)]) (st2 := fun (x2_54_2 : Int32) => []) (h2 := fun (x2_54_2 : Int32) => h35) ?_ (fun Q2 hK2 hE2 => ?_)
              · intro x2_54_2
                show Sx K cX1_said 54 [some (.ref a0), some (.int a1), some (.int x2_54_2), some (.int x3_18)] [] h35 _ _
                refine S_iincN 1 (L' := fun x54 => [some (.ref a0), some (.int a1), some (.int x2_54_2), some (.int x54)]) (dc_X1_said 30 rfl) rfl rfl (fun _ => rfl) (fun x54 n54 => ?_)
                refine S_goto 18 (dc_X1_said 31 rfl) rfl ?_
                exact ih1 x2_54_2 x54 h35
              · have hK2 : ∀ (x2_54_2 : Int32), Sx K cX1_said 54 [some (.ref a0), some (.int a1), some (.int x2_54_2), some (.int x3_18)] [] h35 (some (.ok x2_54_2)) Q2 := hK2
                refine S_if_ne 44 (dc_X1_said 22 rfl) rfl (fun c38 => ?_) (fun c38 => ?_)
                · refine S_iload_n (dc_X1_said 24 rfl) rfl ?_
                  refine S_iload_n (dc_X1_said 25 rfl) rfl ?_
                  refine S_icmp_ne 51 (dc_X1_said 26 rfl) rfl (fun c46 => ?_) (fun c46 => ?_)
                  · refine S_iincN 1 (L' := fun x51 => [some (.ref a0), some (.int a1), some (.int x51), some (.int x3_18)]) (dc_X1_said 29 rfl) rfl rfl (fun _ => rfl) (fun x51 n51 => ?_)
                    exact hK2 x51
                  · refine S_iload_n (dc_X1_said 27 rfl) rfl ?_
                    refine Sx.err hE2 ?_
                    refine Sx.err hE1 ?_
                    exact S_iret (dc_X1_said 28 rfl) hT rfl (e_rqI hr)
                · refine S_goto 54 (dc_X1_said 23 rfl) rfl ?_
                  exact hK2 x2_18
        exact ih1 F 0 0 h
    · refine S_iconst_ (-1) (dc_X1_said 6 rfl) rfl ?_
      exact S_iret (dc_X1_said 7 rfl) hT rfl (e_rqI hr)
abbrev cX1_image : ByteArray := prog_1_method_83_code
def yX1_image : MethodName := ⟨"PegBands", "image", "(I)Z"⟩
def tb_X1_image : List (Nat × Instr × Nat) := [(0, .iload_n 1, 1), (1, .iconst 0, 1), (2, .iconst 1, 1), (3, .invokestatic 187, 3), (6, .ifCond .ne 5, 3), (9, .iconst 0, 1), (10, .ireturn, 1), (11, .aload_n 0, 1), (12, .getfield 149, 3), (15, .iload_n 1, 1), (16, .aaload, 1), (17, .ifnonnull 16, 3), (20, .aload_n 0, 1), (21, .getfield 149, 3), (24, .iload_n 1, 1), (25, .new 147, 3), (28, .dup, 1), (29, .invokespecial 472, 3), (32, .aastore, 1), (33, .aload_n 0, 1), (34, .getfield 149, 3), (37, .iload_n 1, 1), (38, .aaload, 1), (39, .astore_n 2, 1), (40, .aload_n 2, 1), (41, .aload_n 0, 1), (42, .getfield 63, 3), (45, .putfield 473, 3), (48, .aload_n 2, 1), (49, .aload_n 0, 1), (50, .getfield 63, 3), (53, .getfield 234, 3), (56, .putfield 474, 3), (59, .aload_n 0, 1), (60, .getfield 63, 3), (63, .getfield 248, 3), (66, .iconst 0, 1), (67, .aload_n 2, 1), (68, .getfield 475, 3), (71, .iconst 0, 1), (72, .bipush 8, 2), (74, .invokestatic 297, 3), (77, .aload_n 2, 1), (78, .getfield 476, 3), (81, .aload_n 0, 1), (82, .getfield 69, 3), (85, .invokevirtual 349, 3), (88, .aload_n 0, 1), (89, .getfield 134, 3), (92, .iconst 0, 1), (93, .aload_n 2, 1), (94, .getfield 477, 3), (97, .iconst 0, 1), (98, .bipush 9, 2), (100, .invokestatic 297, 3), (103, .aload_n 0, 1), (104, .getfield 137, 3), (107, .iconst 0, 1), (108, .aload_n 2, 1), (109, .getfield 478, 3), (112, .iconst 0, 1), (113, .bipush 9, 2), (115, .invokestatic 297, 3), (118, .aload_n 2, 1), (119, .aload_n 0, 1), (120, .getfield 212, 3), (123, .putfield 479, 3), (126, .aload_n 2, 1), (127, .aload_n 0, 1), (128, .getfield 218, 3), (131, .putfield 480, 3), (134, .iconst 1, 1), (135, .ireturn, 1)]
theorem tk_X1_image : ∀ q ∈ tb_X1_image, decode cX1_image q.1 = .ok q.2 := by decide +kernel
theorem dc_X1_image (k : Nat) {pc n : Nat} {i : Instr} (h : tb_X1_image[k]? = some (pc, i, n)) : decode cX1_image pc = .ok (i, n) := tk_X1_image (pc, i, n) (List.mem_of_getElem? h)
abbrev mX1_image : e_M := (yX1_image, cX1_image, 3, some (.boolean), [])
theorem ok_X1_image : e_mok mX1_image 1 := ⟨q1382, q108, by decide +kernel, fun sig h => by cases h; rfl⟩
theorem fl_X1_473_14_0 : e_FL "PegBands" 473 14 0 := ⟨_, rfl, by decide, Or.inr (Or.inr (Or.inl ⟨_, q1391⟩))⟩
theorem fl_X1_474_14_5 : e_FL "PegBands" 474 14 5 := ⟨_, rfl, by decide, Or.inr (Or.inr (Or.inl ⟨_, q1400⟩))⟩
theorem fl_X1_475_14_1 : e_FL "PegBands" 475 14 1 := ⟨_, rfl, by decide, Or.inr (Or.inr (Or.inl ⟨_, q1393⟩))⟩
theorem fl_X1_476_14_2 : e_FL "PegBands" 476 14 2 := ⟨_, rfl, by decide, Or.inr (Or.inr (Or.inl ⟨_, q1395⟩))⟩
theorem fl_X1_477_14_3 : e_FL "PegBands" 477 14 3 := ⟨_, rfl, by decide, Or.inr (Or.inr (Or.inl ⟨_, q1397⟩))⟩
theorem fl_X1_478_14_4 : e_FL "PegBands" 478 14 4 := ⟨_, rfl, by decide, Or.inr (Or.inr (Or.inl ⟨_, q1399⟩))⟩
theorem fl_X1_479_14_6 : e_FL "PegBands" 479 14 6 := ⟨_, rfl, by decide, Or.inr (Or.inr (Or.inl ⟨_, q1401⟩))⟩
theorem fl_X1_480_14_7 : e_FL "PegBands" 480 14 7 := ⟨_, rfl, by decide, Or.inr (Or.inr (Or.inl ⟨_, q1402⟩))⟩
def f_X1_image (h : e_H) (a0 : Nat) (a1 : Int32) : Option (Int32 × e_H) :=
  Option.bind (f_X1_isIn a1 0 1) (fun x3 =>
  if x3 = 0 then
    some (0, h)
  else
    Option.bind (e_fA h a0 0 36) (fun x12 =>
    Option.bind (e_aR h x12 7 a1) (fun x16 =>
    Option.bind (
        (match x16 with
        | none =>
          Option.bind (e_fA h a0 0 36) (fun x21 =>
          e_mkb h (.inl 14) 8 (fun x25 h25 =>
          Option.bind (f_X17_init h25 x25) (fun h29 =>
          Option.bind (e_wR h29 x21 7 a1 (some x25)) (fun h32 =>
          some h32))))
        | some _ =>
          some h)
      : Option (e_H)) (fun h33_1 =>
    Option.bind (e_fA h33_1 a0 0 36) (fun x34 =>
    Option.bind (e_aA h33_1 x34 7 a1) (fun x38 =>
    Option.bind (e_fR h33_1 a0 0 6) (fun x42 =>
    Option.bind (e_gR h33_1 x38 14 0 x42) (fun h45 =>
    Option.bind (e_fA h45 a0 0 6) (fun x50 =>
    Option.bind (e_fI h45 x50 2 4) (fun x53 =>
    Option.bind (e_gI h45 x38 14 5 x53) (fun h56 =>
    Option.bind (e_fA h56 a0 0 6) (fun x60 =>
    Option.bind (e_fA h56 x60 2 0) (fun x63 =>
    Option.bind (e_fA h56 x38 14 1) (fun x68 =>
    Option.bind (e_cpR h56 4 x63 0 x68 0 8) (fun h74 =>
    Option.bind (e_fA h74 x38 14 2) (fun x78 =>
    Option.bind (e_fA h74 a0 0 7) (fun x82 =>
    Option.bind (e_is h74 x78 3) (fun _ =>
    Option.bind (f_X4_be h74 x78 x82) (fun h85 =>
    Option.bind (e_fA h85 a0 0 31) (fun x89 =>
    Option.bind (e_fA h85 x38 14 3) (fun x94 =>
    Option.bind (e_cpI h85 x89 0 x94 0 9) (fun h100 =>
    Option.bind (e_fA h100 a0 0 32) (fun x104 =>
    Option.bind (e_fA h100 x38 14 4) (fun x109 =>
    Option.bind (e_cpI h100 x104 0 x109 0 9) (fun h115 =>
    Option.bind (e_fI h115 a0 0 33) (fun x120 =>
    Option.bind (e_gI h115 x38 14 6 x120) (fun h123 =>
    Option.bind (e_fR h123 a0 0 35) (fun x128 =>
    Option.bind (e_gR h123 x38 14 7 x128) (fun h131 =>
    some (1, h131))))))))))))))))))))))))))))))
set_option maxHeartbeats 4000000 in
set_option maxRecDepth 100000 in
theorem ct_X1_image {l : Launch} {D : e_D} {B : Heap} {d : Nat} {h : e_H} {a0 : Nat} {a1 : Int32} {v : Int32} {h1 : e_H} (hd : 3 ≤ d) (e : f_X1_image h a0 a1 = some (v, h1)) : e_Run l D B d mX1_image [.ref a0, .int a1] h (.ok (some (.int v)), h1) := by
  refine e_start [some (.ref a0), some (.int a1), none] (by decide) rfl rfl rfl (Nat.le_of_ble_eq_true rfl) (fun K hl0 hD0 hB0 hM hd0 hr => ?_)
  subst hl0 hD0 hB0 hd0
  have ho : (k_M K).1.cls = "PegBands" := by rw [hM]; rfl
  have hT : (k_M K).2.2.2.1 = some (.boolean) := by rw [hM]
  refine (show Sx K cX1_image 0 [some (.ref a0), some (.int a1), none] [] h (f_X1_image h a0 a1) (fun w => w = (v, h1)) from ?_) _ e rfl
  clear e
  unfold f_X1_image
  refine S_iload_n (dc_X1_image 0 rfl) rfl ?_
  refine S_iconst_ 0 (dc_X1_image 1 rfl) rfl ?_
  refine S_iconst_ 1 (dc_X1_image 2 rfl) rfl ?_
  refine S_roI (d := k_d K - 1) (e_callS (As := [.int a1, .int 0, .int 1]) (rest := []) ok_X1_isIn rfl (Nat.le_of_ble_eq_true rfl) (dc_X1_image 3 rfl) ho q825 q616 rfl (Nat.le_of_ble_eq_true rfl)) (by omega) (fun _ e => ct_X1_isIn (by omega) e) (fun x3 e3 => ?_)
  refine S_if_ne 11 (dc_X1_image 4 rfl) rfl (fun c6 => ?_) (fun c6 => ?_)
  · refine S_aload_n (dc_X1_image 7 rfl) rfl ?_
    refine S_getA (dc_X1_image 8 rfl) ho fl_X1_149_0_36 (fun _ _ => rfl) (fun x12 e12 => ?_)
    refine S_iload_n (dc_X1_image 9 rfl) rfl ?_
    refine S_aald7 (dc_X1_image 10 rfl) (fun x16 e16 => ?_)
    refine Sx.regK1 (pc2 := 33) (L2 := fun (h33_1 : e_H) => [some (.ref a0), some (.int a1), none]) (st2 := fun (h33_1 : e_H) => []) (h2 := fun (h33_1 : e_H) => h33_1) ?_ (fun Q1 hK1 => ?_)
    · intro h33_1
      show Sx K cX1_image 33 [some (.ref a0), some (.int a1), none] [] h33_1 _ _
      refine S_aload_n (dc_X1_image 19 rfl) rfl ?_
      refine S_getA (dc_X1_image 20 rfl) ho fl_X1_149_0_36 (fun _ _ => rfl) (fun x34 e34 => ?_)
      refine S_iload_n (dc_X1_image 21 rfl) rfl ?_
      refine S_aaldA7 (dc_X1_image 22 rfl) (fun x38 e38 => ?_)
      refine S_astore_n (L' := [some (.ref a0), some (.int a1), some (.ref x38)]) (dc_X1_image 23 rfl) rfl ?_
      refine S_aload_n (dc_X1_image 24 rfl) rfl ?_
      refine S_aload_n (dc_X1_image 25 rfl) rfl ?_
      refine S_getR (dc_X1_image 26 rfl) ho fl_X1_63_0_6 (fun _ _ => rfl) (fun x42 e42 => ?_)
      refine S_putR (v := x42) (dc_X1_image 27 rfl) ho fl_X1_473_14_0 (fun _ _ => rfl) (Or.inl rfl) rfl (fun h45 e45 => ?_)
      refine S_aload_n (dc_X1_image 28 rfl) rfl ?_
      refine S_aload_n (dc_X1_image 29 rfl) rfl ?_
      refine S_getA (dc_X1_image 30 rfl) ho fl_X1_63_0_6 (fun _ _ => rfl) (fun x50 e50 => ?_)
      refine S_getI (dc_X1_image 31 rfl) ho fl_X1_234_2_4 (fun _ _ => rfl) (fun x53 e53 => ?_)
      refine S_putI (dc_X1_image 32 rfl) ho fl_X1_474_14_5 (fun _ _ => rfl) (Or.inl rfl) rfl rfl (fun h56 e56 => ?_)
      refine S_aload_n (dc_X1_image 33 rfl) rfl ?_
      refine S_getA (dc_X1_image 34 rfl) ho fl_X1_63_0_6 (fun _ _ => rfl) (fun x60 e60 => ?_)
      refine S_getA (dc_X1_image 35 rfl) ho fl_X1_248_2_0 (fun _ _ => rfl) (fun x63 e63 => ?_)
      refine S_iconst_ 0 (dc_X1_image 36 rfl) rfl ?_
      refine S_aload_n (dc_X1_image 37 rfl) rfl ?_
      refine S_getA (dc_X1_image 38 rfl) ho fl_X1_475_14_1 (fun _ _ => rfl) (fun x68 e68 => ?_)
      refine S_iconst_ 0 (dc_X1_image 39 rfl) rfl ?_
      refine S_bipush_ 8 (dc_X1_image 40 rfl) rfl ?_
      refine S_copyR (t := 4) (dc_X1_image 41 rfl) ho q917 (by omega) (Nat.le_of_ble_eq_true rfl) rfl (fun _ _ _ => rfl) (fun h74 e74 => ?_)
      refine S_aload_n (dc_X1_image 42 rfl) rfl ?_
      refine S_getA (dc_X1_image 43 rfl) ho fl_X1_476_14_2 (fun _ _ => rfl) (fun x78 e78 => ?_)
      refine S_aload_n (dc_X1_image 44 rfl) rfl ?_
      refine S_getA (dc_X1_image 45 rfl) ho fl_X1_69_0_7 (fun _ _ => rfl) (fun x82 e82 => ?_)
      refine Sx.ask (fun _ i85 => ?_)
      refine S_rwV (d := k_d K - 1) (e_callV (b := x78) (As := [.ref x82]) (rest := []) ok_X4_be rfl (Nat.le_of_ble_eq_true rfl) (dc_X1_image 46 rfl) ho q1035 q1036 (show e_cl[3]? = some (RX4, TX4, 5) from rfl) (e_sel.of q1037) (e_is_of i85) rfl (Nat.le_of_ble_eq_true rfl)) (by omega) (fun _ e => ct_X4_be (by omega) e) (fun h85 e85 => ?_)
      refine S_aload_n (dc_X1_image 47 rfl) rfl ?_
      refine S_getA (dc_X1_image 48 rfl) ho fl_X1_134_0_31 (fun _ _ => rfl) (fun x89 e89 => ?_)
      refine S_iconst_ 0 (dc_X1_image 49 rfl) rfl ?_
      refine S_aload_n (dc_X1_image 50 rfl) rfl ?_
      refine S_getA (dc_X1_image 51 rfl) ho fl_X1_477_14_3 (fun _ _ => rfl) (fun x94 e94 => ?_)
      refine S_iconst_ 0 (dc_X1_image 52 rfl) rfl ?_
      refine S_bipush_ 9 (dc_X1_image 53 rfl) rfl ?_
      refine S_copyI (dc_X1_image 54 rfl) ho q917 (by omega) (Nat.le_of_ble_eq_true rfl) (fun h100 e100 => ?_)
      refine S_aload_n (dc_X1_image 55 rfl) rfl ?_
      refine S_getA (dc_X1_image 56 rfl) ho fl_X1_137_0_32 (fun _ _ => rfl) (fun x104 e104 => ?_)
      refine S_iconst_ 0 (dc_X1_image 57 rfl) rfl ?_
      refine S_aload_n (dc_X1_image 58 rfl) rfl ?_
      refine S_getA (dc_X1_image 59 rfl) ho fl_X1_478_14_4 (fun _ _ => rfl) (fun x109 e109 => ?_)
      refine S_iconst_ 0 (dc_X1_image 60 rfl) rfl ?_
      refine S_bipush_ 9 (dc_X1_image 61 rfl) rfl ?_
      refine S_copyI (dc_X1_image 62 rfl) ho q917 (by omega) (Nat.le_of_ble_eq_true rfl) (fun h115 e115 => ?_)
      refine S_aload_n (dc_X1_image 63 rfl) rfl ?_
      refine S_aload_n (dc_X1_image 64 rfl) rfl ?_
      refine S_getI (dc_X1_image 65 rfl) ho fl_X1_212_0_33 (fun _ _ => rfl) (fun x120 e120 => ?_)
      refine S_putI (dc_X1_image 66 rfl) ho fl_X1_479_14_6 (fun _ _ => rfl) (Or.inl rfl) rfl rfl (fun h123 e123 => ?_)
      refine S_aload_n (dc_X1_image 67 rfl) rfl ?_
      refine S_aload_n (dc_X1_image 68 rfl) rfl ?_
      refine S_getR (dc_X1_image 69 rfl) ho fl_X1_218_0_35 (fun _ _ => rfl) (fun x128 e128 => ?_)
      refine S_putR (v := x128) (dc_X1_image 70 rfl) ho fl_X1_480_14_7 (fun _ _ => rfl) (Or.inl rfl) rfl (fun h131 e131 => ?_)
      refine S_iconst_ 1 (dc_X1_image 71 rfl) rfl ?_
      exact S_iret (dc_X1_image 72 rfl) hT rfl (e_rqI hr)
    · have hK1 : ∀ (h33_1 : e_H), Sx K cX1_image 33 [some (.ref a0), some (.int a1), none] [] h33_1 (some h33_1) Q1 := hK1
      refine S_ifnonnull 33 (dc_X1_image 11 rfl) rfl (fun _ n17 => ?_) (?_)
      · exact hK1 h
      · refine S_aload_n (dc_X1_image 12 rfl) rfl ?_
        refine S_getA (dc_X1_image 13 rfl) ho fl_X1_149_0_36 (fun _ _ => rfl) (fun x21 e21 => ?_)
        refine S_iload_n (dc_X1_image 14 rfl) rfl ?_
        refine S_newB (dc_X1_image 15 rfl) ho (show e_cl[14]? = some (RX17, TX17, 8) from rfl) (by decide) q448 q1383 q134 (fun x25 h25 u25 w25 => ?_)
        refine S_dup (dc_X1_image 16 rfl) rfl ?_
        refine S_rwV (d := k_d K - 1) (e_callIN (b := x25) (As := []) (rest := [.ref x25, .int a1, .ref x21]) ok_X17_init rfl rfl rfl (Nat.le_of_ble_eq_true rfl) (dc_X1_image 17 rfl) ho q1384 q1385 rfl (Nat.le_of_ble_eq_true rfl)) (by omega) (fun _ e => ct_X17_init (by omega) e) (fun h29 e29 => ?_)
        refine S_aastV (t := 7) (dc_X1_image 18 rfl) rfl (fun _ _ _ => rfl) (fun h32 e32 => ?_)
        exact hK1 h32
  · refine S_iconst_ 0 (dc_X1_image 5 rfl) rfl ?_
    exact S_iret (dc_X1_image 6 rfl) hT rfl (e_rqI hr)
