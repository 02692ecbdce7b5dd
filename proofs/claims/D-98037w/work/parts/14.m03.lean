/-! printed by gen/gen.py -/
set_option maxRecDepth 100000
abbrev cX8_place : ByteArray := prog_3_method_14_code
def yX8_place : MethodName := ⟨"PegBands$Band", "place", "(II)I"⟩
def tb_X8_place : List (Nat × Instr × Nat) := [(0, .iconst 0, 1), (1, .istore_n 3, 1), (2, .iconst 0, 1), (3, .istore 4, 2), (5, .iload 4, 2), (7, .aload_n 0, 1), (8, .getfield 28, 3), (11, .if_icmp .ge 152, 3), (14, .iconst 2, 1), (15, .aload_n 0, 1), (16, .getfield 9, 3), (19, .iload 4, 2), (21, .iaload, 1), (22, .imul, 1), (23, .istore 5, 2), (25, .iconst 2, 1), (26, .aload_n 0, 1), (27, .getfield 15, 3), (30, .iload 4, 2), (32, .iaload, 1), (33, .imul, 1), (34, .istore 6, 2), (36, .iconst 2, 1), (37, .aload_n 0, 1), (38, .getfield 9, 3), (41, .aload_n 0, 1), (42, .iload 4, 2), (44, .invokevirtual 40, 3), (47, .iaload, 1), (48, .imul, 1), (49, .istore 7, 2), (51, .iconst 2, 1), (52, .aload_n 0, 1), (53, .getfield 15, 3), (56, .aload_n 0, 1), (57, .iload 4, 2), (59, .invokevirtual 40, 3), (62, .iaload, 1), (63, .imul, 1), (64, .istore 8, 2), (66, .iload 5, 2), (68, .iload 6, 2), (70, .iload 7, 2), (72, .iload 8, 2), (74, .iload_n 1, 1), (75, .iload_n 2, 1), (76, .invokestatic 70, 3), (79, .ifCond .eq 5, 3), (82, .iconst 1, 1), (83, .ireturn, 1), (84, .iload 6, 2), (86, .iload_n 2, 1), (87, .if_icmp .le 7, 3), (90, .iconst 1, 1), (91, .goto 4, 3), (94, .iconst 0, 1), (95, .iload 8, 2), (97, .iload_n 2, 1), (98, .if_icmp .le 7, 3), (101, .iconst 1, 1), (102, .goto 4, 3), (105, .iconst 0, 1), (106, .if_icmp .ne 6, 3), (109, .goto 48, 3), (112, .iload 5, 2), (114, .iload 6, 2), (116, .iload 7, 2), (118, .iload 8, 2), (120, .iload_n 1, 1), (121, .iload_n 2, 1), (122, .invokestatic 43, 3), (125, .istore 9, 2), (127, .iload 8, 2), (129, .iload 6, 2), (131, .if_icmp .le 11, 3), (134, .iload 9, 2), (136, .ifCond .le 21, 3), (139, .goto 8, 3), (142, .iload 9, 2), (144, .ifCond .ge 13, 3), (147, .iload_n 3, 1), (148, .ifCond .ne 7, 3), (151, .iconst 1, 1), (152, .goto 4, 3), (155, .iconst 0, 1), (156, .istore_n 3, 1), (157, .iinc 4 1, 3), (160, .goto (-155), 3), (163, .iload_n 3, 1), (164, .ifCond .eq 7, 3), (167, .iconst 2, 1), (168, .goto 4, 3), (171, .iconst 0, 1), (172, .ireturn, 1)]
theorem tk_X8_place : ∀ q ∈ tb_X8_place, decode cX8_place q.1 = .ok q.2 := by decide +kernel
theorem dc_X8_place (k : Nat) {pc n : Nat} {i : Instr} (h : tb_X8_place[k]? = some (pc, i, n)) : decode cX8_place pc = .ok (i, n) := tk_X8_place (pc, i, n) (List.mem_of_getElem? h)
abbrev mX8_place : e_M := (yX8_place, cX8_place, 10, some (.int), [])
theorem ok_X8_place : e_mok mX8_place 2 := ⟨q878, q117, by decide +kernel, fun sig h => by cases h; rfl⟩
def lp_X8_place_5 (F : Nat) (h : e_H) (a0 : Nat) (a1 : Int32) (a2 : Int32) : Nat → Int32 → Int32 → Option (Except Int32 Int32)
  | 0, _, _ => none
  | n + 1, x3_5, x4_5 =>
    Option.bind (e_fI h a0 6 2) (fun x8 =>
    if x8 ≤ x4_5 then
      some (.ok x3_5)
    else
      Option.bind (e_fA h a0 6 0) (fun x16 =>
      Option.bind (e_aI h x16 0 x4_5) (fun x21 =>
      Option.bind (some (2 * x21)) (fun x23 =>
      Option.bind (e_fA h a0 6 1) (fun x27 =>
      Option.bind (e_aI h x27 0 x4_5) (fun x32 =>
      Option.bind (some (2 * x32)) (fun x34 =>
      Option.bind (e_fA h a0 6 0) (fun x38 =>
      Option.bind (f_X8_next h a0 x4_5) (fun x44 =>
      Option.bind (e_aI h x38 0 x44) (fun x47 =>
      Option.bind (some (2 * x47)) (fun x49 =>
      Option.bind (e_fA h a0 6 1) (fun x53 =>
      Option.bind (f_X8_next h a0 x4_5) (fun x59 =>
      Option.bind (e_aI h x53 0 x59) (fun x62 =>
      Option.bind (some (2 * x62)) (fun x64 =>
      Option.bind (f_X1_isOn x23 x34 x49 x64 a1 a2) (fun x76 =>
      if x76 = 0 then
        Option.bind (
            if x34 ≤ a2 then
              some 0
            else
              some 1
          : Option (Int32)) (fun s95_2 =>
        Option.bind (
            if x64 ≤ a2 then
              some 0
            else
              some 1
          : Option (Int32)) (fun s106_3 =>
        Option.bind (
            if s95_2 = s106_3 then
              some x3_5
            else
              Option.bind (f_X1_turn x23 x34 x49 x64 a1 a2) (fun x122 =>
              e_bE (
                  if x64 ≤ x34 then
                    if 0 ≤ x122 then
                      some (.error x3_5)
                    else
                      some (.ok ())
                  else
                    if x122 ≤ 0 then
                      some (.error x3_5)
                    else
                      some (.ok ())
                : Option (Except Int32 Unit)) (fun _ =>
              Option.bind (
                  if x3_5 = 0 then
                    some 1
                  else
                    some 0
                : Option (Int32)) (fun s156_6 =>
              some s156_6)))
          : Option (Int32)) (fun x3_157_4 =>
        Option.bind (some (x4_5 + 1)) (fun x157 =>
        lp_X8_place_5 F h a0 a1 a2 n x3_157_4 x157))))
      else
        some (.error 1)))))))))))))))))
def f_X8_place (F : Nat) (h : e_H) (a0 : Nat) (a1 : Int32) (a2 : Int32) : Option Int32 :=
  e_bE (
      lp_X8_place_5 F h a0 a1 a2 F 0 0
    : Option (Except Int32 Int32)) (fun x3_163_1 =>
  if x3_163_1 = 0 then
    some 0
  else
    some 2)
set_option maxHeartbeats 4000000 in
set_option maxRecDepth 100000 in
theorem ct_X8_place {l : Launch} {D : e_D} {B : Heap} {F : Nat} {d : Nat} {h : e_H} {a0 : Nat} {a1 : Int32} {a2 : Int32} {v : Int32} (hd : 3 ≤ d) (e : f_X8_place F h a0 a1 a2 = some v) : e_Run l D B d mX8_place [.ref a0, .int a1, .int a2] h (.ok (some (.int v)), h) := by
  refine e_start [some (.ref a0), some (.int a1), some (.int a2), none, none, none, none, none, none, none] (by decide) rfl rfl rfl (Nat.le_of_ble_eq_true rfl) (fun K hl0 hD0 hB0 hM hd0 hr => ?_)
  subst hl0 hD0 hB0 hd0
  have ho : (k_M K).1.cls = "PegBands$Band" := by rw [hM]; rfl
  have hT : (k_M K).2.2.2.1 = some (.int) := by rw [hM]
  refine (show Sx K cX8_place 0 [some (.ref a0), some (.int a1), some (.int a2), none, none, none, none, none, none, none] [] h (f_X8_place F h a0 a1 a2) (fun w => w = v) from ?_) _ e rfl
  clear e
  unfold f_X8_place
  refine S_iconst_ 0 (dc_X8_place 0 rfl) rfl ?_
  refine S_istore_n (L' := [some (.ref a0), some (.int a1), some (.int a2), some (.int 0), none, none, none, none, none, none]) (dc_X8_place 1 rfl) rfl ?_
  refine S_iconst_ 0 (dc_X8_place 2 rfl) rfl ?_
  refine S_istore (L' := [some (.ref a0), some (.int a1), some (.int a2), some (.int 0), some (.int 0), none, none, none, none, none]) (dc_X8_place 3 rfl) rfl ?_
  refine Sx.regKE1 (pc2 := 163) (L2 := fun (x3_163_1 : Int32) => [none, none, none, some (.int x3_163_1), none, none, none, none, none, none]) (st2 := fun (x3_163_1 : Int32) => []) (h2 := fun (x3_163_1 : Int32) => h) ?_ (fun Q1 hK1 hE1 => ?_)
  · intro x3_163_1
    show Sx K cX8_place 163 [none, none, none, some (.int x3_163_1), none, none, none, none, none, none] [] h _ _
    refine S_iload_n (dc_X8_place 88 rfl) rfl ?_
    refine S_if_eq 171 (dc_X8_place 89 rfl) rfl (fun c164 => ?_) (fun c164 => ?_)
    · refine S_iconst_ 0 (dc_X8_place 92 rfl) rfl ?_
      exact S_iret (dc_X8_place 93 rfl) hT rfl (fun q => by cases q; exact hr)
    · refine S_iconst_ 2 (dc_X8_place 90 rfl) rfl ?_
      refine S_goto 172 (dc_X8_place 91 rfl) rfl ?_
      exact S_iret (dc_X8_place 93 rfl) hT rfl (fun q => by cases q; exact hr)
  · have hK1 : ∀ (x3_163_1 : Int32), Sx K cX8_place 163 [none, none, none, some (.int x3_163_1), none, none, none, none, none, none] [] h (some (.ok x3_163_1)) Q1 := hK1
    have ih1 : ∀ (n : Nat) (x3_5 : Int32) (x4_5 : Int32), Sx K cX8_place 5 [some (.ref a0), some (.int a1), some (.int a2), some (.int x3_5), some (.int x4_5), none, none, none, none, none] [] h (lp_X8_place_5 F h a0 a1 a2 n x3_5 x4_5) Q1 := by
      intro n
      induction n with
      | zero => intro x3_5 x4_5; exact Sx.none
      | succ n ih1 =>
        intro x3_5 x4_5
        rw [lp_X8_place_5.eq_2]
        refine S_iload (dc_X8_place 4 rfl) rfl ?_
        refine S_aload_n (dc_X8_place 5 rfl) rfl ?_
        refine S_getI (dc_X8_place 6 rfl) ho fl_X8_28_6_2 (fun _ _ => rfl) (fun x8 e8 => ?_)
        refine S_icmp_ge 163 (dc_X8_place 7 rfl) rfl (fun c11 => ?_) (fun c11 => ?_)
        · refine Sx.cut [false, false, false, true, false, true, true, true, true, true] ?_
          exact hK1 x3_5
        · refine S_iconst_ 2 (dc_X8_place 8 rfl) rfl ?_
          refine S_aload_n (dc_X8_place 9 rfl) rfl ?_
          refine S_getA (dc_X8_place 10 rfl) ho fl_X8_9_6_0 (fun _ _ => rfl) (fun x16 e16 => ?_)
          refine S_iload (dc_X8_place 11 rfl) rfl ?_
          refine S_iald (dc_X8_place 12 rfl) (fun x21 e21 => ?_)
          refine S_imul (dc_X8_place 13 rfl) ?_
          refine Sx.nameI (fun x23 n23 => ?_)
          refine S_istore (L' := [some (.ref a0), some (.int a1), some (.int a2), some (.int x3_5), some (.int x4_5), some (.int x23), none, none, none, none]) (dc_X8_place 14 rfl) rfl ?_
          refine S_iconst_ 2 (dc_X8_place 15 rfl) rfl ?_
          refine S_aload_n (dc_X8_place 16 rfl) rfl ?_
          refine S_getA (dc_X8_place 17 rfl) ho fl_X8_15_6_1 (fun _ _ => rfl) (fun x27 e27 => ?_)
          refine S_iload (dc_X8_place 18 rfl) rfl ?_
          refine S_iald (dc_X8_place 19 rfl) (fun x32 e32 => ?_)
          refine S_imul (dc_X8_place 20 rfl) ?_
          refine Sx.nameI (fun x34 n34 => ?_)
          refine S_istore (L' := [some (.ref a0), some (.int a1), some (.int a2), some (.int x3_5), some (.int x4_5), some (.int x23), some (.int x34), none, none, none]) (dc_X8_place 21 rfl) rfl ?_
          refine S_iconst_ 2 (dc_X8_place 22 rfl) rfl ?_
          refine S_aload_n (dc_X8_place 23 rfl) rfl ?_
          refine S_getA (dc_X8_place 24 rfl) ho fl_X8_9_6_0 (fun _ _ => rfl) (fun x38 e38 => ?_)
          refine S_aload_n (dc_X8_place 25 rfl) rfl ?_
          refine S_iload (dc_X8_place 26 rfl) rfl ?_
          refine S_roI (d := k_d K - 1) (e_callV (b := a0) (As := [.int x4_5]) (rest := [.ref x38, .int 2]) ok_X8_next rfl (Nat.le_of_ble_eq_true rfl) (dc_X8_place 27 rfl) ho q798 q799 (show e_cl[6]? = some (RX8, TX8, 4) from rfl) (e_sel.of q800) (e_fI_of e8).1 rfl (Nat.le_of_ble_eq_true rfl)) (by omega) (fun _ e => ct_X8_next (by omega) e) (fun x44 e44 => ?_)
          refine S_iald (dc_X8_place 28 rfl) (fun x47 e47 => ?_)
          refine S_imul (dc_X8_place 29 rfl) ?_
          refine Sx.nameI (fun x49 n49 => ?_)
          refine S_istore (L' := [some (.ref a0), some (.int a1), some (.int a2), some (.int x3_5), some (.int x4_5), some (.int x23), some (.int x34), some (.int x49), none, none]) (dc_X8_place 30 rfl) rfl ?_
          refine S_iconst_ 2 (dc_X8_place 31 rfl) rfl ?_
          refine S_aload_n (dc_X8_place 32 rfl) rfl ?_
          refine S_getA (dc_X8_place 33 rfl) ho fl_X8_15_6_1 (fun _ _ => rfl) (fun x53 e53 => ?_)
          refine S_aload_n (dc_X8_place 34 rfl) rfl ?_
          refine S_iload (dc_X8_place 35 rfl) rfl ?_
          refine S_roI (d := k_d K - 1) (e_callV (b := a0) (As := [.int x4_5]) (rest := [.ref x53, .int 2]) ok_X8_next rfl (Nat.le_of_ble_eq_true rfl) (dc_X8_place 36 rfl) ho q798 q799 (show e_cl[6]? = some (RX8, TX8, 4) from rfl) (e_sel.of q800) (e_fI_of e8).1 rfl (Nat.le_of_ble_eq_true rfl)) (by omega) (fun _ e => ct_X8_next (by omega) e) (fun x59 e59 => ?_)
          refine S_iald (dc_X8_place 37 rfl) (fun x62 e62 => ?_)
          refine S_imul (dc_X8_place 38 rfl) ?_
          refine Sx.nameI (fun x64 n64 => ?_)
          refine S_istore (L' := [some (.ref a0), some (.int a1), some (.int a2), some (.int x3_5), some (.int x4_5), some (.int x23), some (.int x34), some (.int x49), some (.int x64), none]) (dc_X8_place 39 rfl) rfl ?_
          refine S_iload (dc_X8_place 40 rfl) rfl ?_
          refine S_iload (dc_X8_place 41 rfl) rfl ?_
          refine S_iload (dc_X8_place 42 rfl) rfl ?_
          refine S_iload (dc_X8_place 43 rfl) rfl ?_
          refine S_iload_n (dc_X8_place 44 rfl) rfl ?_
          refine S_iload_n (dc_X8_place 45 rfl) rfl ?_
          refine S_roI (d := k_d K - 1) (e_callSN (As := [.int x23, .int x34, .int x49, .int x64, .int a1, .int a2]) (rest := []) ok_X1_isOn rfl (Nat.le_of_ble_eq_true rfl) (dc_X8_place 46 rfl) ho q879 q817 rfl (Nat.le_of_ble_eq_true rfl)) (by omega) (fun _ e => ct_X1_isOn (by omega) e) (fun x76 e76 => ?_)
          refine S_if_eq 84 (dc_X8_place 47 rfl) rfl (fun c79 => ?_) (fun c79 => ?_)
          · refine S_iload (dc_X8_place 50 rfl) rfl ?_
            refine S_iload_n (dc_X8_place 51 rfl) rfl ?_
            refine Sx.regK1 (pc2 := 95) (L2 := fun (s95_2 : Int32) => [some (.ref a0), some (.int a1), some (.int a2), some (.int x3_5), some (.int x4_5), some (.int x23), some (.int x34), some (.int x49), some (.int x64), none]) (st2 := fun (s95_2 : Int32) => [.int s95_2]) (h2 := fun (s95_2 : Int32) => h) ?_ (fun Q2 hK2 => ?_)
            · intro s95_2
              show Sx K cX8_place 95 [some (.ref a0), some (.int a1), some (.int a2), some (.int x3_5), some (.int x4_5), some (.int x23), some (.int x34), some (.int x49), some (.int x64), none] [.int s95_2] h _ _
              refine S_iload (dc_X8_place 56 rfl) rfl ?_
              refine S_iload_n (dc_X8_place 57 rfl) rfl ?_
              refine Sx.regK1 (pc2 := 106) (L2 := fun (s106_3 : Int32) => [some (.ref a0), some (.int a1), some (.int a2), some (.int x3_5), some (.int x4_5), some (.int x23), some (.int x34), some (.int x49), some (.int x64), none]) (st2 := fun (s106_3 : Int32) => [.int s106_3, .int s95_2]) (h2 := fun (s106_3 : Int32) => h) ?_ (fun Q3 hK3 => ?_)
              · intro s106_3
                show Sx K cX8_place 106 [some (.ref a0), some (.int a1), some (.int a2), some (.int x3_5), some (.int x4_5), some (.int x23), some (.int x34), some (.int x49), some (.int x64), none] [.int s106_3, .int s95_2] h _ _
                refine Sx.regK1 (pc2 := 157) (L2 := fun (x3_157_4 : Int32) => [some (.ref a0), some (.int a1), some (.int a2), some (.int x3_157_4), some (.int x4_5), none, none, none, none, none]) (st2 := fun (x3_157_4 : Int32) => []) (h2 := fun (x3_157_4 : Int32) => h) ?_ (fun Q4 hK4 => ?_)
                · intro x3_157_4
                  show Sx K cX8_place 157 [some (.ref a0), some (.int a1), some (.int a2), some (.int x3_157_4), some (.int x4_5), none, none, none, none, none] [] h _ _
                  refine S_iincN 1 (L' := fun x157 => [some (.ref a0), some (.int a1), some (.int a2), some (.int x3_157_4), some (.int x157), none, none, none, none, none]) (dc_X8_place 86 rfl) rfl rfl (fun _ => rfl) (fun x157 n157 => ?_)
                  refine S_goto 5 (dc_X8_place 87 rfl) rfl ?_
                  exact ih1 x3_157_4 x157
                · have hK4 : ∀ (x3_157_4 : Int32), Sx K cX8_place 157 [some (.ref a0), some (.int a1), some (.int a2), some (.int x3_157_4), some (.int x4_5), none, none, none, none, none] [] h (some x3_157_4) Q4 := hK4
                  refine S_icmp_ne 112 (dc_X8_place 62 rfl) rfl (fun c106 => ?_) (fun c106 => ?_)
                  · refine S_iload (dc_X8_place 64 rfl) rfl ?_
                    refine S_iload (dc_X8_place 65 rfl) rfl ?_
                    refine S_iload (dc_X8_place 66 rfl) rfl ?_
                    refine S_iload (dc_X8_place 67 rfl) rfl ?_
                    refine S_iload_n (dc_X8_place 68 rfl) rfl ?_
                    refine S_iload_n (dc_X8_place 69 rfl) rfl ?_
                    refine S_roI (d := k_d K - 1) (e_callSN (As := [.int x23, .int x34, .int x49, .int x64, .int a1, .int a2]) (rest := []) ok_X1_turn rfl (Nat.le_of_ble_eq_true rfl) (dc_X8_place 70 rfl) ho q802 q803 rfl (Nat.le_of_ble_eq_true rfl)) (by omega) (fun _ e => ct_X1_turn (by omega) e) (fun x122 e122 => ?_)
                    refine S_istore (L' := [some (.ref a0), some (.int a1), some (.int a2), some (.int x3_5), some (.int x4_5), some (.int x23), some (.int x34), some (.int x49), some (.int x64), some (.int x122)]) (dc_X8_place 71 rfl) rfl ?_
                    refine S_iload (dc_X8_place 72 rfl) rfl ?_
                    refine S_iload (dc_X8_place 73 rfl) rfl ?_
                    refine Sx.regKE0 (pc2 := 147) (L2 := [some (.ref a0), some (.int a1), some (.int a2), some (.int x3_5), some (.int x4_5), none, none, none, none, none]) (st2 := []) (h2 := h) ?_ (fun Q5 hK5 hE5 => ?_)
                    · skip
                      refine S_iload_n (dc_X8_place 80 rfl) rfl ?_
                      refine Sx.regK1 (pc2 := 156) (L2 := fun (s156_6 : Int32) => [some (.ref a0), some (.int a1), some (.int a2), none, some (.int x4_5), none, none, none, none, none]) (st2 := fun (s156_6 : Int32) => [.int s156_6]) (h2 := fun (s156_6 : Int32) => h) ?_ (fun Q6 hK6 => ?_)
                      · intro s156_6
                        show Sx K cX8_place 156 [some (.ref a0), some (.int a1), some (.int a2), none, some (.int x4_5), none, none, none, none, none] [.int s156_6] h _ _
                        refine S_istore_n (L' := [some (.ref a0), some (.int a1), some (.int a2), some (.int s156_6), some (.int x4_5), none, none, none, none, none]) (dc_X8_place 85 rfl) rfl ?_
                        exact hK4 s156_6
                      · have hK6 : ∀ (s156_6 : Int32), Sx K cX8_place 156 [some (.ref a0), some (.int a1), some (.int a2), none, some (.int x4_5), none, none, none, none, none] [.int s156_6] h (some s156_6) Q6 := hK6
                        refine S_if_ne 155 (dc_X8_place 81 rfl) rfl (fun c148 => ?_) (fun c148 => ?_)
                        · refine S_iconst_ 0 (dc_X8_place 84 rfl) rfl ?_
                          refine Sx.cut [true, true, true, false, true, true, true, true, true, true] ?_
                          exact hK6 0
                        · refine S_iconst_ 1 (dc_X8_place 82 rfl) rfl ?_
                          refine S_goto 156 (dc_X8_place 83 rfl) rfl ?_
                          refine Sx.cut [true, true, true, false, true, true, true, true, true, true] ?_
                          exact hK6 1
                    · have hK5 : Sx K cX8_place 147 [some (.ref a0), some (.int a1), some (.int a2), some (.int x3_5), some (.int x4_5), none, none, none, none, none] [] h (some (.ok ())) Q5 := hK5
                      refine S_icmp_le 142 (dc_X8_place 74 rfl) rfl (fun c131 => ?_) (fun c131 => ?_)
                      · refine S_iload (dc_X8_place 78 rfl) rfl ?_
                        refine S_if_ge 157 (dc_X8_place 79 rfl) rfl (fun c144 => ?_) (fun c144 => ?_)
                        · refine Sx.cut [true, true, true, true, true, false, false, false, false, false] ?_
                          refine Sx.err hE5 ?_
                          exact hK4 x3_5
                        · refine Sx.cut [true, true, true, true, true, false, false, false, false, false] ?_
                          exact hK5
                      · refine S_iload (dc_X8_place 75 rfl) rfl ?_
                        refine S_if_le 157 (dc_X8_place 76 rfl) rfl (fun c136 => ?_) (fun c136 => ?_)
                        · refine Sx.cut [true, true, true, true, true, false, false, false, false, false] ?_
                          refine Sx.err hE5 ?_
                          exact hK4 x3_5
                        · refine S_goto 147 (dc_X8_place 77 rfl) rfl ?_
                          refine Sx.cut [true, true, true, true, true, false, false, false, false, false] ?_
                          exact hK5
                  · refine S_goto 157 (dc_X8_place 63 rfl) rfl ?_
                    refine Sx.cut [true, true, true, true, true, false, false, false, false, true] ?_
                    exact hK4 x3_5
              · have hK3 : ∀ (s106_3 : Int32), Sx K cX8_place 106 [some (.ref a0), some (.int a1), some (.int a2), some (.int x3_5), some (.int x4_5), some (.int x23), some (.int x34), some (.int x49), some (.int x64), none] [.int s106_3, .int s95_2] h (some s106_3) Q3 := hK3
                refine S_icmp_le 105 (dc_X8_place 58 rfl) rfl (fun c98 => ?_) (fun c98 => ?_)
                · refine S_iconst_ 0 (dc_X8_place 61 rfl) rfl ?_
                  exact hK3 0
                · refine S_iconst_ 1 (dc_X8_place 59 rfl) rfl ?_
                  refine S_goto 106 (dc_X8_place 60 rfl) rfl ?_
                  exact hK3 1
            · have hK2 : ∀ (s95_2 : Int32), Sx K cX8_place 95 [some (.ref a0), some (.int a1), some (.int a2), some (.int x3_5), some (.int x4_5), some (.int x23), some (.int x34), some (.int x49), some (.int x64), none] [.int s95_2] h (some s95_2) Q2 := hK2
              refine S_icmp_le 94 (dc_X8_place 52 rfl) rfl (fun c87 => ?_) (fun c87 => ?_)
              · refine S_iconst_ 0 (dc_X8_place 55 rfl) rfl ?_
                exact hK2 0
              · refine S_iconst_ 1 (dc_X8_place 53 rfl) rfl ?_
                refine S_goto 95 (dc_X8_place 54 rfl) rfl ?_
                exact hK2 1
          · refine S_iconst_ 1 (dc_X8_place 48 rfl) rfl ?_
            refine Sx.err hE1 ?_
            exact S_iret (dc_X8_place 49 rfl) hT rfl (fun q => by cases q; exact hr)
    exact ih1 F 0 0
abbrev cX8_isInside : ByteArray := prog_3_method_18_code
def yX8_isInside : MethodName := ⟨"PegBands$Band", "isInside", "(LPegBands$Band;)Z"⟩
def tb_X8_isInside : List (Nat × Instr × Nat) := [(0, .aload_n 0, 1), (1, .aload_n 1, 1), (2, .invokevirtual 86, 3), (5, .ifCond .eq 31, 3), (8, .aload_n 1, 1), (9, .iconst 2, 1), (10, .aload_n 0, 1), (11, .getfield 9, 3), (14, .iconst 0, 1), (15, .iaload, 1), (16, .imul, 1), (17, .iconst 2, 1), (18, .aload_n 0, 1), (19, .getfield 15, 3), (22, .iconst 0, 1), (23, .iaload, 1), (24, .imul, 1), (25, .invokevirtual 90, 3), (28, .iconst 2, 1), (29, .if_icmp .ne 7, 3), (32, .iconst 1, 1), (33, .goto 4, 3), (36, .iconst 0, 1), (37, .ireturn, 1)]
theorem tk_X8_isInside : ∀ q ∈ tb_X8_isInside, decode cX8_isInside q.1 = .ok q.2 := by decide +kernel
theorem dc_X8_isInside (k : Nat) {pc n : Nat} {i : Instr} (h : tb_X8_isInside[k]? = some (pc, i, n)) : decode cX8_isInside pc = .ok (i, n) := tk_X8_isInside (pc, i, n) (List.mem_of_getElem? h)
abbrev mX8_isInside : e_M := (yX8_isInside, cX8_isInside, 2, some (.boolean), [])
theorem ok_X8_isInside : e_mok mX8_isInside 1 := ⟨q892, q117, by decide +kernel, fun sig h => by cases h; rfl⟩
def f_X8_isInside (F : Nat) (h : e_H) (a0 : Nat) (a1 : Nat) : Option Int32 :=
  Option.bind (e_is h a0 6) (fun _ =>
  Option.bind (f_X8_isClear F h a0 a1) (fun x2 =>
  if x2 = 0 then
    some 0
  else
    Option.bind (e_fA h a0 6 0) (fun x11 =>
    Option.bind (e_aI h x11 0 0) (fun x15 =>
    Option.bind (e_fA h a0 6 1) (fun x19 =>
    Option.bind (e_aI h x19 0 0) (fun x23 =>
    Option.bind (e_is h a1 6) (fun _ =>
    Option.bind (f_X8_place F h a1 (2 * x15) (2 * x23)) (fun x25 =>
    if x25 = 2 then
      some 1
    else
      some 0))))))))
set_option maxHeartbeats 4000000 in
set_option maxRecDepth 100000 in
theorem ct_X8_isInside {l : Launch} {D : e_D} {B : Heap} {F : Nat} {d : Nat} {h : e_H} {a0 : Nat} {a1 : Nat} {v : Int32} (hd : 7 ≤ d) (e : f_X8_isInside F h a0 a1 = some v) : e_Run l D B d mX8_isInside [.ref a0, .ref a1] h (.ok (some (.int v)), h) := by
  refine e_start [some (.ref a0), some (.ref a1)] (by decide) rfl rfl rfl (Nat.le_of_ble_eq_true rfl) (fun K hl0 hD0 hB0 hM hd0 hr => ?_)
  subst hl0 hD0 hB0 hd0
  have ho : (k_M K).1.cls = "PegBands$Band" := by rw [hM]; rfl
  have hT : (k_M K).2.2.2.1 = some (.boolean) := by rw [hM]
  refine (show Sx K cX8_isInside 0 [some (.ref a0), some (.ref a1)] [] h (f_X8_isInside F h a0 a1) (fun w => w = v) from ?_) _ e rfl
  clear e
  unfold f_X8_isInside
  refine S_aload_n (dc_X8_isInside 0 rfl) rfl ?_
  refine S_aload_n (dc_X8_isInside 1 rfl) rfl ?_
  refine Sx.ask (fun _ i2 => ?_)
  refine S_roI (d := k_d K - 1) (e_callV (b := a0) (As := [.ref a1]) (rest := []) ok_X8_isClear rfl (Nat.le_of_ble_eq_true rfl) (dc_X8_isInside 2 rfl) ho q893 q827 (show e_cl[6]? = some (RX8, TX8, 4) from rfl) (e_sel.of q828) (e_is_of i2) rfl (Nat.le_of_ble_eq_true rfl)) (by omega) (fun _ e => ct_X8_isClear (by omega) e) (fun x2 e2 => ?_)
  refine S_if_eq 36 (dc_X8_isInside 3 rfl) rfl (fun c5 => ?_) (fun c5 => ?_)
  · refine S_iconst_ 0 (dc_X8_isInside 22 rfl) rfl ?_
    exact S_iret (dc_X8_isInside 23 rfl) hT rfl (fun q => by cases q; exact hr)
  · refine S_aload_n (dc_X8_isInside 4 rfl) rfl ?_
    refine S_iconst_ 2 (dc_X8_isInside 5 rfl) rfl ?_
    refine S_aload_n (dc_X8_isInside 6 rfl) rfl ?_
    refine S_getA (dc_X8_isInside 7 rfl) ho fl_X8_9_6_0 (fun _ _ => rfl) (fun x11 e11 => ?_)
    refine S_iconst_ 0 (dc_X8_isInside 8 rfl) rfl ?_
    refine S_iald (dc_X8_isInside 9 rfl) (fun x15 e15 => ?_)
    refine S_imul (dc_X8_isInside 10 rfl) ?_
    refine S_iconst_ 2 (dc_X8_isInside 11 rfl) rfl ?_
    refine S_aload_n (dc_X8_isInside 12 rfl) rfl ?_
    refine S_getA (dc_X8_isInside 13 rfl) ho fl_X8_15_6_1 (fun _ _ => rfl) (fun x19 e19 => ?_)
    refine S_iconst_ 0 (dc_X8_isInside 14 rfl) rfl ?_
    refine S_iald (dc_X8_isInside 15 rfl) (fun x23 e23 => ?_)
    refine S_imul (dc_X8_isInside 16 rfl) ?_
    refine Sx.ask (fun _ i25 => ?_)
    refine S_roI (d := k_d K - 1) (e_callV (b := a1) (As := [.int (2 * x15), .int (2 * x23)]) (rest := []) ok_X8_place rfl (Nat.le_of_ble_eq_true rfl) (dc_X8_isInside 17 rfl) ho q894 q876 (show e_cl[6]? = some (RX8, TX8, 4) from rfl) (e_sel.of q877) (e_is_of i25) rfl (Nat.le_of_ble_eq_true rfl)) (by omega) (fun _ e => ct_X8_place (by omega) e) (fun x25 e25 => ?_)
    refine S_iconst_ 2 (dc_X8_isInside 18 rfl) rfl ?_
    refine S_icmp_ne 36 (dc_X8_isInside 19 rfl) rfl (fun c29 => ?_) (fun c29 => ?_)
    · refine S_iconst_ 0 (dc_X8_isInside 22 rfl) rfl ?_
      exact S_iret (dc_X8_isInside 23 rfl) hT rfl (fun q => by cases q; exact hr)
    · refine S_iconst_ 1 (dc_X8_isInside 20 rfl) rfl ?_
      refine S_goto 37 (dc_X8_isInside 21 rfl) rfl ?_
      exact S_iret (dc_X8_isInside 23 rfl) hT rfl (fun q => by cases q; exact hr)
abbrev cX14_is : ByteArray := prog_13_method_2_code
def yX14_is : MethodName := ⟨"PegBands$Like", "is", "(LPegBands;I)Z"⟩
def tb_X14_is : List (Nat × Instr × Nat) := [(0, .iconst 0, 1), (1, .istore_n 3, 1), (2, .iload_n 3, 1), (3, .aload_n 1, 1), (4, .getfield 17, 3), (7, .getfield 23, 3), (10, .if_icmp .ge 87, 3), (13, .aload_n 1, 1), (14, .getfield 17, 3), (17, .getfield 29, 3), (20, .iload_n 3, 1), (21, .aaload, 1), (22, .astore 4, 2), (24, .aload 4, 2), (26, .getfield 33, 3), (29, .aload_n 0, 1), (30, .getfield 13, 3), (33, .lcmp, 1), (34, .ifCond .ne 57, 3), (37, .aload_n 0, 1), (38, .getfield 7, 3), (41, .ifCond .eq 22, 3), (44, .aload_n 1, 1), (45, .aload_n 1, 1), (46, .getfield 17, 3), (49, .getfield 29, 3), (52, .iload_n 2, 1), (53, .aaload, 1), (54, .aload 4, 2), (56, .iconst 2, 1), (57, .invokevirtual 36, 3), (60, .goto 30, 3), (63, .iload_n 3, 1), (64, .iload_n 2, 1), (65, .if_icmp .eq 24, 3), (68, .aload_n 1, 1), (69, .getfield 17, 3), (72, .getfield 29, 3), (75, .iload_n 2, 1), (76, .aaload, 1), (77, .aload 4, 2), (79, .invokevirtual 40, 3), (82, .ifCond .eq 7, 3), (85, .iconst 1, 1), (86, .goto 4, 3), (89, .iconst 0, 1), (90, .ireturn, 1), (91, .iinc 3 1, 3), (94, .goto (-92), 3), (97, .iconst 0, 1), (98, .ireturn, 1)]
theorem tk_X14_is : ∀ q ∈ tb_X14_is, decode cX14_is q.1 = .ok q.2 := by decide +kernel
theorem dc_X14_is (k : Nat) {pc n : Nat} {i : Instr} (h : tb_X14_is[k]? = some (pc, i, n)) : decode cX14_is pc = .ok (i, n) := tk_X14_is (pc, i, n) (List.mem_of_getElem? h)
abbrev mX14_is : e_M := (yX14_is, cX14_is, 5, some (.boolean), [])
theorem ok_X14_is : e_mok mX14_is 2 := ⟨q1369, q131, by decide +kernel, fun sig h => by cases h; rfl⟩
theorem fl_X14_17_0_6 : e_FL "PegBands$Like" 17 0 6 := ⟨_, rfl, by decide, Or.inr (Or.inr (Or.inl ⟨_, q461⟩))⟩
theorem fl_X14_23_2_4 : e_FL "PegBands$Like" 23 2 4 := ⟨_, rfl, by decide, Or.inr (Or.inr (Or.inl ⟨_, q256⟩))⟩
theorem fl_X14_29_2_0 : e_FL "PegBands$Like" 29 2 0 := ⟨_, rfl, by decide, Or.inr (Or.inr (Or.inl ⟨_, q241⟩))⟩
theorem fl_X14_33_6_3 : e_FL "PegBands$Like" 33 6 3 := ⟨_, rfl, by decide, Or.inr (Or.inr (Or.inl ⟨_, q403⟩))⟩
def lp_X14_is_2 (F : Nat) (h : e_H) (a0 : Nat) (a1 : Nat) (a2 : Int32) : Nat → Int32 → Option (Except (Int32 × e_H) Unit)
  | 0, _ => none
  | n + 1, x3_2 =>
    Option.bind (e_fA h a1 0 6) (fun x4 =>
    Option.bind (e_fI h x4 2 4) (fun x7 =>
    if x7 ≤ x3_2 then
      some (.ok ())
    else
      Option.bind (e_fA h a1 0 6) (fun x14 =>
      Option.bind (e_fA h x14 2 0) (fun x17 =>
      Option.bind (e_aA h x17 4 x3_2) (fun x21 =>
      Option.bind (e_fJ h x21 6 3) (fun x26 =>
      Option.bind (e_fJ h a0 11 1) (fun x30 =>
      if (lg_cmp x26 x30) = 0 then
        Option.bind (e_fI h a0 11 0) (fun x38 =>
        if x38 = 0 then
          if x3_2 = a2 then
            some (.error (0, h))
          else
            Option.bind (e_fA h a1 0 6) (fun x69 =>
            Option.bind (e_fA h x69 2 0) (fun x72 =>
            Option.bind (e_aA h x72 4 a2) (fun x76 =>
            Option.bind (e_is h x76 6) (fun _ =>
            Option.bind (f_X8_isInside F h x76 x21) (fun x79 =>
            if x79 = 0 then
              some (.error (0, h))
            else
              some (.error (1, h)))))))
        else
          Option.bind (e_fA h a1 0 6) (fun x46 =>
          Option.bind (e_fA h x46 2 0) (fun x49 =>
          Option.bind (e_aA h x49 4 a2) (fun x53 =>
          e_b2 (f_X1_areAlike F h a1 x53 x21 2) (fun x57 h57 =>
          if x57 = 0 ∨ x57 = 1 then some (.error (x57, h57)) else none)))))
      else
        Option.bind (some (x3_2 + 1)) (fun x91 =>
        lp_X14_is_2 F h a0 a1 a2 n x91))))))))
def f_X14_is (F : Nat) (h : e_H) (a0 : Nat) (a1 : Nat) (a2 : Int32) : Option (Int32 × e_H) :=
  e_bE (
      lp_X14_is_2 F h a0 a1 a2 F 0
    : Option (Except (Int32 × e_H) Unit)) (fun _ =>
  some (0, h))
set_option maxHeartbeats 4000000 in
set_option maxRecDepth 100000 in
theorem ct_X14_is {l : Launch} {D : e_D} {B : Heap} {F : Nat} {d : Nat} {h : e_H} {a0 : Nat} {a1 : Nat} {a2 : Int32} {v : Int32} {h1 : e_H} (hd : 8 ≤ d) (e : f_X14_is F h a0 a1 a2 = some (v, h1)) : e_Run l D B d mX14_is [.ref a0, .ref a1, .int a2] h (.ok (some (.int v)), h1) := by
  refine e_start [some (.ref a0), some (.ref a1), some (.int a2), none, none] (by decide) rfl rfl rfl (Nat.le_of_ble_eq_true rfl) (fun K hl0 hD0 hB0 hM hd0 hr => ?_)
  subst hl0 hD0 hB0 hd0
  have ho : (k_M K).1.cls = "PegBands$Like" := by rw [hM]; rfl
  have hT : (k_M K).2.2.2.1 = some (.boolean) := by rw [hM]
  refine (show Sx K cX14_is 0 [some (.ref a0), some (.ref a1), some (.int a2), none, none] [] h (f_X14_is F h a0 a1 a2) (fun w => w = (v, h1)) from ?_) _ e rfl
  clear e
  unfold f_X14_is
  refine S_iconst_ 0 (dc_X14_is 0 rfl) rfl ?_
  refine S_istore_n (L' := [some (.ref a0), some (.ref a1), some (.int a2), some (.int 0), none]) (dc_X14_is 1 rfl) rfl ?_
  refine Sx.regKE0 (pc2 := 97) (L2 := [none, none, none, none, none]) (st2 := []) (h2 := h) ?_ (fun Q1 hK1 hE1 => ?_)
  · skip
    refine S_iconst_ 0 (dc_X14_is 49 rfl) rfl ?_
    exact S_iret (dc_X14_is 50 rfl) hT rfl (e_rqI hr)
  · have hK1 : Sx K cX14_is 97 [none, none, none, none, none] [] h (some (.ok ())) Q1 := hK1
    have ih1 : ∀ (n : Nat) (x3_2 : Int32), Sx K cX14_is 2 [some (.ref a0), some (.ref a1), some (.int a2), some (.int x3_2), none] [] h (lp_X14_is_2 F h a0 a1 a2 n x3_2) Q1 := by
      intro n
      induction n with
      | zero => intro x3_2; exact Sx.none
      | succ n ih1 =>
        intro x3_2
        rw [lp_X14_is_2.eq_2]
        refine S_iload_n (dc_X14_is 2 rfl) rfl ?_
        refine S_aload_n (dc_X14_is 3 rfl) rfl ?_
        refine S_getA (dc_X14_is 4 rfl) ho fl_X14_17_0_6 (fun _ _ => rfl) (fun x4 e4 => ?_)
        refine S_getI (dc_X14_is 5 rfl) ho fl_X14_23_2_4 (fun _ _ => rfl) (fun x7 e7 => ?_)
        refine S_icmp_ge 97 (dc_X14_is 6 rfl) rfl (fun c10 => ?_) (fun c10 => ?_)
        · refine Sx.cut [false, false, false, false, true] ?_
          exact hK1
        · refine S_aload_n (dc_X14_is 7 rfl) rfl ?_
          refine S_getA (dc_X14_is 8 rfl) ho fl_X14_17_0_6 (fun _ _ => rfl) (fun x14 e14 => ?_)
          refine S_getA (dc_X14_is 9 rfl) ho fl_X14_29_2_0 (fun _ _ => rfl) (fun x17 e17 => ?_)
          refine S_iload_n (dc_X14_is 10 rfl) rfl ?_
          refine S_aaldA4 (dc_X14_is 11 rfl) (fun x21 e21 => ?_)
          refine S_astore (L' := [some (.ref a0), some (.ref a1), some (.int a2), some (.int x3_2), some (.ref x21)]) (dc_X14_is 12 rfl) rfl ?_
          refine S_aload (dc_X14_is 13 rfl) rfl ?_
          refine S_getJ (dc_X14_is 14 rfl) ho fl_X14_33_6_3 (fun _ _ => rfl) (fun x26 e26 => ?_)
          refine S_aload_n (dc_X14_is 15 rfl) rfl ?_
          refine S_getJ (dc_X14_is 16 rfl) ho fl_X14_13_11_1 (fun _ _ => rfl) (fun x30 e30 => ?_)
          refine S_lcmp (dc_X14_is 17 rfl) ?_
          refine S_if_ne 91 (dc_X14_is 18 rfl) rfl (fun c34 => ?_) (fun c34 => ?_)
          · refine S_iincN 1 (L' := fun x91 => [some (.ref a0), some (.ref a1), some (.int a2), some (.int x91), some (.ref x21)]) (dc_X14_is 47 rfl) rfl rfl (fun _ => rfl) (fun x91 n91 => ?_)
            refine S_goto 2 (dc_X14_is 48 rfl) rfl ?_
            refine Sx.cut [true, true, true, true, false] ?_
            exact ih1 x91
          · refine S_aload_n (dc_X14_is 19 rfl) rfl ?_
            refine S_getI (dc_X14_is 20 rfl) ho fl_X14_7_11_0 (fun _ _ => rfl) (fun x38 e38 => ?_)
            refine S_if_eq 63 (dc_X14_is 21 rfl) rfl (fun c41 => ?_) (fun c41 => ?_)
            · refine S_iload_n (dc_X14_is 32 rfl) rfl ?_
              refine S_iload_n (dc_X14_is 33 rfl) rfl ?_
              refine S_icmp_eq 89 (dc_X14_is 34 rfl) rfl (fun c65 => ?_) (fun c65 => ?_)
              · refine S_iconst_ 0 (dc_X14_is 45 rfl) rfl ?_
                refine Sx.err hE1 ?_
                exact S_iret (dc_X14_is 46 rfl) hT rfl (e_rqI hr)
              · refine S_aload_n (dc_X14_is 35 rfl) rfl ?_
                refine S_getA (dc_X14_is 36 rfl) ho fl_X14_17_0_6 (fun _ _ => rfl) (fun x69 e69 => ?_)
                refine S_getA (dc_X14_is 37 rfl) ho fl_X14_29_2_0 (fun _ _ => rfl) (fun x72 e72 => ?_)
                refine S_iload_n (dc_X14_is 38 rfl) rfl ?_
                refine S_aaldA4 (dc_X14_is 39 rfl) (fun x76 e76 => ?_)
                refine S_aload (dc_X14_is 40 rfl) rfl ?_
                refine Sx.ask (fun _ i79 => ?_)
                refine S_roI (d := k_d K - 1) (e_callV (b := x76) (As := [.ref x21]) (rest := []) ok_X8_isInside rfl (Nat.le_of_ble_eq_true rfl) (dc_X14_is 41 rfl) ho q1371 q890 (show e_cl[6]? = some (RX8, TX8, 4) from rfl) (e_sel.of q891) (e_is_of i79) rfl (Nat.le_of_ble_eq_true rfl)) (by omega) (fun _ e => ct_X8_isInside (by omega) e) (fun x79 e79 => ?_)
                refine S_if_eq 89 (dc_X14_is 42 rfl) rfl (fun c82 => ?_) (fun c82 => ?_)
                · refine S_iconst_ 0 (dc_X14_is 45 rfl) rfl ?_
                  refine Sx.err hE1 ?_
                  exact S_iret (dc_X14_is 46 rfl) hT rfl (e_rqI hr)
                · refine S_iconst_ 1 (dc_X14_is 43 rfl) rfl ?_
                  refine S_goto 90 (dc_X14_is 44 rfl) rfl ?_
                  refine Sx.err hE1 ?_
                  exact S_iret (dc_X14_is 46 rfl) hT rfl (e_rqI hr)
            · refine S_aload_n (dc_X14_is 22 rfl) rfl ?_
              refine S_aload_n (dc_X14_is 23 rfl) rfl ?_
              refine S_getA (dc_X14_is 24 rfl) ho fl_X14_17_0_6 (fun _ _ => rfl) (fun x46 e46 => ?_)
              refine S_getA (dc_X14_is 25 rfl) ho fl_X14_29_2_0 (fun _ _ => rfl) (fun x49 e49 => ?_)
              refine S_iload_n (dc_X14_is 26 rfl) rfl ?_
              refine S_aaldA4 (dc_X14_is 27 rfl) (fun x53 e53 => ?_)
              refine S_aload (dc_X14_is 28 rfl) rfl ?_
              refine S_iconst_ 2 (dc_X14_is 29 rfl) rfl ?_
              refine S_rwI (d := k_d K - 1) (e_callVN (b := a1) (As := [.ref x53, .ref x21, .int 2]) (rest := []) ok_X1_areAlike rfl (Nat.le_of_ble_eq_true rfl) (dc_X14_is 30 rfl) ho q1370 q901 (show e_cl[0]? = some (RX1, TX1, 37) from rfl) (e_sel.of qs8) (e_fA_of e4).1 rfl (Nat.le_of_ble_eq_true rfl)) (by omega) (fun _ _ e => ct_X1_areAlike (by omega) e) (fun x57 h57 e57 => ?_)
              refine S_goto 90 (dc_X14_is 31 rfl) rfl ?_
              refine Sx.cond (fun c90 => ?_)
              refine Sx.err hE1 ?_
              exact S_iret (dc_X14_is 46 rfl) hT (e_narZ c90).1 (e_rqI hr)
    exact ih1 F 0
abbrev cX15_init : ByteArray := prog_6_method_1_code
def yX15_init : MethodName := ⟨"PegBands$Both", "<init>", "(LPegBands$Cond;LPegBands$Cond;)V"⟩
def tb_X15_init : List (Nat × Instr × Nat) := [(0, .aload_n 0, 1), (1, .invokespecial 1, 3), (4, .aload_n 0, 1), (5, .aload_n 1, 1), (6, .putfield 7, 3), (9, .aload_n 0, 1), (10, .aload_n 2, 1), (11, .putfield 13, 3), (14, .return_, 1)]
theorem tk_X15_init : ∀ q ∈ tb_X15_init, decode cX15_init q.1 = .ok q.2 := by decide +kernel
theorem dc_X15_init (k : Nat) {pc n : Nat} {i : Instr} (h : tb_X15_init[k]? = some (pc, i, n)) : decode cX15_init pc = .ok (i, n) := tk_X15_init (pc, i, n) (List.mem_of_getElem? h)
abbrev mX15_init : e_M := (yX15_init, cX15_init, 3, none, [])
theorem ok_X15_init : e_mok mX15_init 2 := ⟨q1316, q132, by decide +kernel, fun sig h => by cases h; rfl⟩
theorem fl_X15_7_12_0 : e_FL "PegBands$Both" 7 12 0 := ⟨_, rfl, by decide, Or.inl q1318⟩
theorem fl_X15_13_12_1 : e_FL "PegBands$Both" 13 12 1 := ⟨_, rfl, by decide, Or.inl q1319⟩
def f_X15_init (h : e_H) (a0 : Nat) (a1 : Nat) (a2 : Nat) : Option e_H :=
  Option.bind (f_X11_init h a0) (fun h1 =>
  Option.bind (e_gR h1 a0 12 0 (some a1)) (fun h6 =>
  Option.bind (e_gR h6 a0 12 1 (some a2)) (fun h11 =>
  some h11)))
set_option maxHeartbeats 4000000 in
set_option maxRecDepth 100000 in
theorem ct_X15_init {l : Launch} {D : e_D} {B : Heap} {d : Nat} {h : e_H} {a0 : Nat} {a1 : Nat} {a2 : Nat} {h1 : e_H} (hd : 2 ≤ d) (e : f_X15_init h a0 a1 a2 = some h1) : e_Run l D B d mX15_init [.ref a0, .ref a1, .ref a2] h (.ok none, h1) := by
  refine e_start [some (.ref a0), some (.ref a1), some (.ref a2)] (by decide) rfl rfl rfl (Nat.le_of_ble_eq_true rfl) (fun K hl0 hD0 hB0 hM hd0 hr => ?_)
  subst hl0 hD0 hB0 hd0
  have ho : (k_M K).1.cls = "PegBands$Both" := by rw [hM]; rfl
  have hT : (k_M K).2.2.2.1 = none := by rw [hM]
  refine (show Sx K cX15_init 0 [some (.ref a0), some (.ref a1), some (.ref a2)] [] h (f_X15_init h a0 a1 a2) (fun w => w = h1) from ?_) _ e rfl
  clear e
  unfold f_X15_init
  refine S_aload_n (dc_X15_init 0 rfl) rfl ?_
  refine S_rwV (d := k_d K - 1) (e_callIN (b := a0) (As := []) (rest := []) ok_X11_init rfl rfl rfl (Nat.le_of_ble_eq_true rfl) (dc_X15_init 1 rfl) ho q1317 q1266 rfl (Nat.le_of_ble_eq_true rfl)) (by omega) (fun _ e => ct_X11_init (by omega) e) (fun h1 e1 => ?_)
  refine S_aload_n (dc_X15_init 2 rfl) rfl ?_
  refine S_aload_n (dc_X15_init 3 rfl) rfl ?_
  refine S_putR (v := (some a1)) (dc_X15_init 4 rfl) ho fl_X15_7_12_0 (fun _ _ => rfl) (Or.inr ⟨rfl, by rw [hM]; rfl, rfl⟩) rfl (fun h6 e6 => ?_)
  refine S_aload_n (dc_X15_init 5 rfl) rfl ?_
  refine S_aload_n (dc_X15_init 6 rfl) rfl ?_
  refine S_putR (v := (some a2)) (dc_X15_init 7 rfl) ho fl_X15_13_12_1 (fun _ _ => rfl) (Or.inr ⟨rfl, by rw [hM]; rfl, rfl⟩) rfl (fun h11 e11 => ?_)
  exact S_vret (dc_X15_init 8 rfl) hT (fun q => by cases q; exact hr)
abbrev cX15_is : ByteArray := prog_6_method_2_code
def yX15_is : MethodName := ⟨"PegBands$Both", "is", "(LPegBands;I)Z"⟩
def tb_X15_is : List (Nat × Instr × Nat) := [(0, .aload_n 0, 1), (1, .getfield 7, 3), (4, .aload_n 1, 1), (5, .iload_n 2, 1), (6, .invokevirtual 16, 3), (9, .ifCond .eq 19, 3), (12, .aload_n 0, 1), (13, .getfield 13, 3), (16, .aload_n 1, 1), (17, .iload_n 2, 1), (18, .invokevirtual 16, 3), (21, .ifCond .eq 7, 3), (24, .iconst 1, 1), (25, .goto 4, 3), (28, .iconst 0, 1), (29, .ireturn, 1)]
theorem tk_X15_is : ∀ q ∈ tb_X15_is, decode cX15_is q.1 = .ok q.2 := by decide +kernel
theorem dc_X15_is (k : Nat) {pc n : Nat} {i : Instr} (h : tb_X15_is[k]? = some (pc, i, n)) : decode cX15_is pc = .ok (i, n) := tk_X15_is (pc, i, n) (List.mem_of_getElem? h)
abbrev mX15_is : e_M := (yX15_is, cX15_is, 3, some (.boolean), [])
theorem ok_X15_is : e_mok mX15_is 2 := ⟨q1351, q132, by decide +kernel, fun sig h => by cases h; rfl⟩
def f_X15_is (F : Nat) (S : e_H → Nat → Nat → Int32 → Option (Int32 × e_H)) (h : e_H) (a0 : Nat) (a1 : Nat) (a2 : Int32) : Option (Int32 × e_H) :=
  Option.bind (e_fA h a0 12 0) (fun x1 =>
  e_b2 (S h x1 a1 a2) (fun x6 h6 =>
  if x6 = 0 then
    some (0, h6)
  else
    Option.bind (e_fA h6 a0 12 1) (fun x13 =>
    e_b2 (S h6 x13 a1 a2) (fun x18 h18 =>
    if x18 = 0 then
      some (0, h18)
    else
      some (1, h18)))))
set_option maxHeartbeats 4000000 in
set_option maxRecDepth 100000 in
theorem ct_X15_is {l : Launch} {D : e_D} {B : Heap} {F : Nat} {S : e_H → Nat → Nat → Int32 → Option (Int32 × e_H)} {dS : Nat} {d : Nat} {h : e_H} {a0 : Nat} {a1 : Nat} {a2 : Int32} {v : Int32} {h1 : e_H} (hS : ∀ {h : e_H} {a0 a1 : Nat} {a2 : Int32} {v : Int32} {h1 : e_H}, S h a0 a1 a2 = some (v, h1) → e_Disp l D B dS h a0 a1 a2 v h1) (hd : 1 ≤ d) (hd2 : dS + 1 ≤ d) (e : f_X15_is F S h a0 a1 a2 = some (v, h1)) : e_Run l D B d mX15_is [.ref a0, .ref a1, .int a2] h (.ok (some (.int v)), h1) := by
  refine e_start [some (.ref a0), some (.ref a1), some (.int a2)] (by decide) rfl rfl rfl (Nat.le_of_ble_eq_true rfl) (fun K hl0 hD0 hB0 hM hd0 hr => ?_)
  subst hl0 hD0 hB0 hd0
  have ho : (k_M K).1.cls = "PegBands$Both" := by rw [hM]; rfl
  have hT : (k_M K).2.2.2.1 = some (.boolean) := by rw [hM]
  refine (show Sx K cX15_is 0 [some (.ref a0), some (.ref a1), some (.int a2)] [] h (f_X15_is F S h a0 a1 a2) (fun w => w = (v, h1)) from ?_) _ e rfl
  clear e
  unfold f_X15_is
  refine S_aload_n (dc_X15_is 0 rfl) rfl ?_
  refine S_getA (dc_X15_is 1 rfl) ho fl_X15_7_12_0 (fun _ _ => rfl) (fun x1 e1 => ?_)
  refine S_aload_n (dc_X15_is 2 rfl) rfl ?_
  refine S_iload_n (dc_X15_is 3 rfl) rfl ?_
  refine S_disp (rest := []) (d := dS) (dc_X15_is 4 rfl) ho q1352 (by omega) (Nat.le_of_ble_eq_true rfl) (fun e => hS e) (fun x6 h6 e6 => ?_)
  refine S_if_eq 28 (dc_X15_is 5 rfl) rfl (fun c9 => ?_) (fun c9 => ?_)
  · refine S_iconst_ 0 (dc_X15_is 14 rfl) rfl ?_
    exact S_iret (dc_X15_is 15 rfl) hT rfl (e_rqI hr)
  · refine S_aload_n (dc_X15_is 6 rfl) rfl ?_
    refine S_getA (dc_X15_is 7 rfl) ho fl_X15_13_12_1 (fun _ _ => rfl) (fun x13 e13 => ?_)
    refine S_aload_n (dc_X15_is 8 rfl) rfl ?_
    refine S_iload_n (dc_X15_is 9 rfl) rfl ?_
    refine S_disp (rest := []) (d := dS) (dc_X15_is 10 rfl) ho q1352 (by omega) (Nat.le_of_ble_eq_true rfl) (fun e => hS e) (fun x18 h18 e18 => ?_)
    refine S_if_eq 28 (dc_X15_is 11 rfl) rfl (fun c21 => ?_) (fun c21 => ?_)
    · refine S_iconst_ 0 (dc_X15_is 14 rfl) rfl ?_
      exact S_iret (dc_X15_is 15 rfl) hT rfl (e_rqI hr)
    · refine S_iconst_ 1 (dc_X15_is 12 rfl) rfl ?_
      refine S_goto 29 (dc_X15_is 13 rfl) rfl ?_
      exact S_iret (dc_X15_is 15 rfl) hT rfl (e_rqI hr)
abbrev cX10_init : ByteArray := prog_18_method_1_code
def yX10_init : MethodName := ⟨"PegBandsModel", "<init>", "()V"⟩
def tb_X10_init : List (Nat × Instr × Nat) := [(0, .aload_n 0, 1), (1, .invokespecial 1, 3), (4, .aload_n 0, 1), (5, .sipush 640, 3), (8, .newarray .int, 2), (10, .putfield 7, 3), (13, .aload_n 0, 1), (14, .sipush 512, 3), (17, .newarray .int, 2), (19, .putfield 13, 3), (22, .aload_n 0, 1), (23, .sipush 258, 3), (26, .newarray .int, 2), (28, .putfield 16, 3), (31, .aload_n 0, 1), (32, .bipush 20, 2), (34, .newarray .int, 2), (36, .putfield 19, 3), (39, .aload_n 0, 1), (40, .sipush 1024, 3), (43, .newarray .int, 2), (45, .putfield 22, 3), (48, .aload_n 0, 1), (49, .sipush 1928, 3), (52, .newarray .int, 2), (54, .putfield 25, 3), (57, .aload_n 0, 1), (58, .bipush 8, 2), (60, .newarray .long, 2), (62, .putfield 28, 3), (65, .aload_n 0, 1), (66, .bipush 8, 2), (68, .newarray .long, 2), (70, .putfield 32, 3), (73, .aload_n 0, 1), (74, .bipush 64, 2), (76, .newarray .long, 2), (78, .putfield 35, 3), (81, .aload_n 0, 1), (82, .bipush 20, 2), (84, .newarray .long, 2), (86, .putfield 38, 3), (89, .aload_n 0, 1), (90, .bipush 16, 2), (92, .newarray .long, 2), (94, .putfield 41, 3), (97, .aload_n 0, 1), (98, .bipush 40, 2), (100, .newarray .long, 2), (102, .putfield 44, 3), (105, .aload_n 0, 1), (106, .iconst 2, 1), (107, .newarray .boolean, 2), (109, .putfield 47, 3), (112, .aload_n 0, 1), (113, .bipush 16, 2), (115, .newarray .int, 2), (117, .putfield 51, 3), (120, .aload_n 0, 1), (121, .bipush 16, 2), (123, .newarray .int, 2), (125, .putfield 54, 3), (128, .aload_n 0, 1), (129, .bipush 16, 2), (131, .newarray .int, 2), (133, .putfield 57, 3), (136, .aload_n 0, 1), (137, .bipush 16, 2), (139, .newarray .int, 2), (141, .putfield 60, 3), (144, .aload_n 0, 1), (145, .bipush 16, 2), (147, .newarray .int, 2), (149, .putfield 63, 3), (152, .aload_n 0, 1), (153, .sipush 200, 3), (156, .newarray .int, 2), (158, .putfield 66, 3), (161, .aload_n 0, 1), (162, .bipush 100, 2), (164, .newarray .int, 2), (166, .putfield 69, 3), (169, .aload_n 0, 1), (170, .bipush 100, 2), (172, .newarray .int, 2), (174, .putfield 72, 3), (177, .aload_n 0, 1), (178, .bipush 100, 2), (180, .newarray .int, 2), (182, .putfield 75, 3), (185, .aload_n 0, 1), (186, .ldc 78, 2), (188, .newarray .int, 2), (190, .putfield 79, 3), (193, .aload_n 0, 1), (194, .ldc 78, 2), (196, .newarray .int, 2), (198, .putfield 82, 3), (201, .aload_n 0, 1), (202, .bipush 8, 2), (204, .newarray .int, 2), (206, .putfield 85, 3), (209, .aload_n 0, 1), (210, .sipush 240, 3), (213, .newarray .int, 2), (215, .putfield 88, 3), (218, .aload_n 0, 1), (219, .bipush 20, 2), (221, .newarray .long, 2), (223, .putfield 91, 3), (226, .return_, 1)]
theorem tk_X10_init : ∀ q ∈ tb_X10_init, decode cX10_init q.1 = .ok q.2 := by decide +kernel
theorem dc_X10_init (k : Nat) {pc n : Nat} {i : Instr} (h : tb_X10_init[k]? = some (pc, i, n)) : decode cX10_init pc = .ok (i, n) := tk_X10_init (pc, i, n) (List.mem_of_getElem? h)
abbrev mX10_init : e_M := (yX10_init, cX10_init, 1, none, [])
theorem ok_X10_init : e_mok mX10_init 0 := ⟨q1468, q119, by decide +kernel, fun sig h => by cases h; rfl⟩
theorem fl_X10_7_8_1 : e_FL "PegBandsModel" 7 8 1 := ⟨_, rfl, by decide, Or.inl q1472⟩
theorem fl_X10_13_8_15 : e_FL "PegBandsModel" 13 8 15 := ⟨_, rfl, by decide, Or.inl q1486⟩
theorem fl_X10_16_8_16 : e_FL "PegBandsModel" 16 8 16 := ⟨_, rfl, by decide, Or.inl q1487⟩
theorem fl_X10_19_8_17 : e_FL "PegBandsModel" 19 8 17 := ⟨_, rfl, by decide, Or.inl q1488⟩
theorem fl_X10_22_8_18 : e_FL "PegBandsModel" 22 8 18 := ⟨_, rfl, by decide, Or.inl q1489⟩
theorem fl_X10_25_8_19 : e_FL "PegBandsModel" 25 8 19 := ⟨_, rfl, by decide, Or.inl q1490⟩
theorem fl_X10_28_8_20 : e_FL "PegBandsModel" 28 8 20 := ⟨_, rfl, by decide, Or.inl q1491⟩
theorem fl_X10_32_8_21 : e_FL "PegBandsModel" 32 8 21 := ⟨_, rfl, by decide, Or.inl q1492⟩
theorem fl_X10_35_8_22 : e_FL "PegBandsModel" 35 8 22 := ⟨_, rfl, by decide, Or.inl q1493⟩
theorem fl_X10_38_8_23 : e_FL "PegBandsModel" 38 8 23 := ⟨_, rfl, by decide, Or.inl q1494⟩
theorem fl_X10_41_8_24 : e_FL "PegBandsModel" 41 8 24 := ⟨_, rfl, by decide, Or.inl q1495⟩
theorem fl_X10_44_8_25 : e_FL "PegBandsModel" 44 8 25 := ⟨_, rfl, by decide, Or.inl q1496⟩
theorem fl_X10_47_8_26 : e_FL "PegBandsModel" 47 8 26 := ⟨_, rfl, by decide, Or.inl q1497⟩
theorem fl_X10_51_8_28 : e_FL "PegBandsModel" 51 8 28 := ⟨_, rfl, by decide, Or.inl q1499⟩
theorem fl_X10_54_8_29 : e_FL "PegBandsModel" 54 8 29 := ⟨_, rfl, by decide, Or.inl q1500⟩
theorem fl_X10_57_8_30 : e_FL "PegBandsModel" 57 8 30 := ⟨_, rfl, by decide, Or.inl q1501⟩
theorem fl_X10_60_8_31 : e_FL "PegBandsModel" 60 8 31 := ⟨_, rfl, by decide, Or.inl q1502⟩
theorem fl_X10_63_8_32 : e_FL "PegBandsModel" 63 8 32 := ⟨_, rfl, by decide, Or.inl q1503⟩
theorem fl_X10_66_8_35 : e_FL "PegBandsModel" 66 8 35 := ⟨_, rfl, by decide, Or.inl q1506⟩
theorem fl_X10_69_8_38 : e_FL "PegBandsModel" 69 8 38 := ⟨_, rfl, by decide, Or.inl q1509⟩
theorem fl_X10_72_8_39 : e_FL "PegBandsModel" 72 8 39 := ⟨_, rfl, by decide, Or.inl q1510⟩
theorem fl_X10_75_8_40 : e_FL "PegBandsModel" 75 8 40 := ⟨_, rfl, by decide, Or.inl q1511⟩
theorem fl_X10_79_8_41 : e_FL "PegBandsModel" 79 8 41 := ⟨_, rfl, by decide, Or.inl q1512⟩
theorem fl_X10_82_8_42 : e_FL "PegBandsModel" 82 8 42 := ⟨_, rfl, by decide, Or.inl q1513⟩
theorem fl_X10_85_8_43 : e_FL "PegBandsModel" 85 8 43 := ⟨_, rfl, by decide, Or.inl q1514⟩
theorem fl_X10_88_8_44 : e_FL "PegBandsModel" 88 8 44 := ⟨_, rfl, by decide, Or.inl q1515⟩
theorem fl_X10_91_8_45 : e_FL "PegBandsModel" 91 8 45 := ⟨_, rfl, by decide, Or.inl q1516⟩
def f_X10_init (h : e_H) (a0 : Nat) : Option e_H :=
  Option.bind (e_nat 640) (fun l8 => e_mkb h (.inr (0, l8)) l8 (fun x8 h8 =>
  Option.bind (e_gR h8 a0 8 1 (some x8)) (fun h10 =>
  Option.bind (e_nat 512) (fun l17 => e_mkb h10 (.inr (0, l17)) l17 (fun x17 h17 =>
  Option.bind (e_gR h17 a0 8 15 (some x17)) (fun h19 =>
  Option.bind (e_nat 258) (fun l26 => e_mkb h19 (.inr (0, l26)) l26 (fun x26 h26 =>
  Option.bind (e_gR h26 a0 8 16 (some x26)) (fun h28 =>
  Option.bind (e_nat 20) (fun l34 => e_mkb h28 (.inr (0, l34)) l34 (fun x34 h34 =>
  Option.bind (e_gR h34 a0 8 17 (some x34)) (fun h36 =>
  Option.bind (e_nat 1024) (fun l43 => e_mkb h36 (.inr (0, l43)) l43 (fun x43 h43 =>
  Option.bind (e_gR h43 a0 8 18 (some x43)) (fun h45 =>
  Option.bind (e_nat 1928) (fun l52 => e_mkb h45 (.inr (0, l52)) l52 (fun x52 h52 =>
  Option.bind (e_gR h52 a0 8 19 (some x52)) (fun h54 =>
  Option.bind (e_nat 8) (fun l60 => e_mkb h54 (.inr (3, l60)) l60 (fun x60 h60 =>
  Option.bind (e_gR h60 a0 8 20 (some x60)) (fun h62 =>
  Option.bind (e_nat 8) (fun l68 => e_mkb h62 (.inr (3, l68)) l68 (fun x68 h68 =>
  Option.bind (e_gR h68 a0 8 21 (some x68)) (fun h70 =>
  Option.bind (e_nat 64) (fun l76 => e_mkb h70 (.inr (3, l76)) l76 (fun x76 h76 =>
  Option.bind (e_gR h76 a0 8 22 (some x76)) (fun h78 =>
  Option.bind (e_nat 20) (fun l84 => e_mkb h78 (.inr (3, l84)) l84 (fun x84 h84 =>
  Option.bind (e_gR h84 a0 8 23 (some x84)) (fun h86 =>
  Option.bind (e_nat 16) (fun l92 => e_mkb h86 (.inr (3, l92)) l92 (fun x92 h92 =>
  Option.bind (e_gR h92 a0 8 24 (some x92)) (fun h94 =>
  Option.bind (e_nat 40) (fun l100 => e_mkb h94 (.inr (3, l100)) l100 (fun x100 h100 =>
  Option.bind (e_gR h100 a0 8 25 (some x100)) (fun h102 =>
  Option.bind (e_nat 2) (fun l107 => e_mkb h102 (.inr (2, l107)) l107 (fun x107 h107 =>
  Option.bind (e_gR h107 a0 8 26 (some x107)) (fun h109 =>
  Option.bind (e_nat 16) (fun l115 => e_mkb h109 (.inr (0, l115)) l115 (fun x115 h115 =>
  Option.bind (e_gR h115 a0 8 28 (some x115)) (fun h117 =>
  Option.bind (e_nat 16) (fun l123 => e_mkb h117 (.inr (0, l123)) l123 (fun x123 h123 =>
  Option.bind (e_gR h123 a0 8 29 (some x123)) (fun h125 =>
  Option.bind (e_nat 16) (fun l131 => e_mkb h125 (.inr (0, l131)) l131 (fun x131 h131 =>
  Option.bind (e_gR h131 a0 8 30 (some x131)) (fun h133 =>
  Option.bind (e_nat 16) (fun l139 => e_mkb h133 (.inr (0, l139)) l139 (fun x139 h139 =>
  Option.bind (e_gR h139 a0 8 31 (some x139)) (fun h141 =>
  Option.bind (e_nat 16) (fun l147 => e_mkb h141 (.inr (0, l147)) l147 (fun x147 h147 =>
  Option.bind (e_gR h147 a0 8 32 (some x147)) (fun h149 =>
  Option.bind (e_nat 200) (fun l156 => e_mkb h149 (.inr (0, l156)) l156 (fun x156 h156 =>
  Option.bind (e_gR h156 a0 8 35 (some x156)) (fun h158 =>
  Option.bind (e_nat 100) (fun l164 => e_mkb h158 (.inr (0, l164)) l164 (fun x164 h164 =>
  Option.bind (e_gR h164 a0 8 38 (some x164)) (fun h166 =>
  Option.bind (e_nat 100) (fun l172 => e_mkb h166 (.inr (0, l172)) l172 (fun x172 h172 =>
  Option.bind (e_gR h172 a0 8 39 (some x172)) (fun h174 =>
  Option.bind (e_nat 100) (fun l180 => e_mkb h174 (.inr (0, l180)) l180 (fun x180 h180 =>
  Option.bind (e_gR h180 a0 8 40 (some x180)) (fun h182 =>
  Option.bind (e_nat 46656) (fun l188 => e_mkb h182 (.inr (0, l188)) l188 (fun x188 h188 =>
  Option.bind (e_gR h188 a0 8 41 (some x188)) (fun h190 =>
  Option.bind (e_nat 46656) (fun l196 => e_mkb h190 (.inr (0, l196)) l196 (fun x196 h196 =>
  Option.bind (e_gR h196 a0 8 42 (some x196)) (fun h198 =>
  Option.bind (e_nat 8) (fun l204 => e_mkb h198 (.inr (0, l204)) l204 (fun x204 h204 =>
  Option.bind (e_gR h204 a0 8 43 (some x204)) (fun h206 =>
  Option.bind (e_nat 240) (fun l213 => e_mkb h206 (.inr (0, l213)) l213 (fun x213 h213 =>
  Option.bind (e_gR h213 a0 8 44 (some x213)) (fun h215 =>
  Option.bind (e_nat 20) (fun l221 => e_mkb h215 (.inr (3, l221)) l221 (fun x221 h221 =>
  Option.bind (e_gR h221 a0 8 45 (some x221)) (fun h223 =>
  some h223)))))))))))))))))))))))))))))))))))))))))))))))))))))))))))))))))))))))))))))))))
set_option maxHeartbeats 4000000 in
set_option maxRecDepth 100000 in
theorem ct_X10_init {l : Launch} {D : e_D} {B : Heap} {d : Nat} {h : e_H} {a0 : Nat} {h1 : e_H} (hd : 1 ≤ d) (e : f_X10_init h a0 = some h1) : e_Run l D B d mX10_init [.ref a0] h (.ok none, h1) := by
  refine e_start [some (.ref a0)] (by decide) rfl rfl rfl (Nat.le_of_ble_eq_true rfl) (fun K hl0 hD0 hB0 hM hd0 hr => ?_)
  subst hl0 hD0 hB0 hd0
  have ho : (k_M K).1.cls = "PegBandsModel" := by rw [hM]; rfl
  have hT : (k_M K).2.2.2.1 = none := by rw [hM]
  refine (show Sx K cX10_init 0 [some (.ref a0)] [] h (f_X10_init h a0) (fun w => w = h1) from ?_) _ e rfl
  clear e
  unfold f_X10_init
  refine S_aload_n (dc_X10_init 0 rfl) rfl ?_
  refine S_objInit (dc_X10_init 1 rfl) ho q1469 (by omega) (Nat.le_of_ble_eq_true rfl) ?_
  refine S_aload_n (dc_X10_init 2 rfl) rfl ?_
  refine S_sipush_ 640 (dc_X10_init 3 rfl) rfl ?_
  refine S_newaB (t := 0) (dc_X10_init 4 rfl) (by decide) rfl q311 (fun l8 x8 h8 v8 u8 w8 => ?_)
  refine S_putR (v := (some x8)) (dc_X10_init 5 rfl) ho fl_X10_7_8_1 (fun _ _ => rfl) (Or.inr ⟨rfl, by rw [hM]; rfl, rfl⟩) rfl (fun h10 e10 => ?_)
  refine S_aload_n (dc_X10_init 6 rfl) rfl ?_
  refine S_sipush_ 512 (dc_X10_init 7 rfl) rfl ?_
  refine S_newaB (t := 0) (dc_X10_init 8 rfl) (by decide) rfl q311 (fun l17 x17 h17 v17 u17 w17 => ?_)
  refine S_putR (v := (some x17)) (dc_X10_init 9 rfl) ho fl_X10_13_8_15 (fun _ _ => rfl) (Or.inr ⟨rfl, by rw [hM]; rfl, rfl⟩) rfl (fun h19 e19 => ?_)
  refine S_aload_n (dc_X10_init 10 rfl) rfl ?_
  refine S_sipush_ 258 (dc_X10_init 11 rfl) rfl ?_
  refine S_newaB (t := 0) (dc_X10_init 12 rfl) (by decide) rfl q311 (fun l26 x26 h26 v26 u26 w26 => ?_)
  refine S_putR (v := (some x26)) (dc_X10_init 13 rfl) ho fl_X10_16_8_16 (fun _ _ => rfl) (Or.inr ⟨rfl, by rw [hM]; rfl, rfl⟩) rfl (fun h28 e28 => ?_)
  refine S_aload_n (dc_X10_init 14 rfl) rfl ?_
  refine S_bipush_ 20 (dc_X10_init 15 rfl) rfl ?_
  refine S_newaB (t := 0) (dc_X10_init 16 rfl) (by decide) rfl q311 (fun l34 x34 h34 v34 u34 w34 => ?_)
  refine S_putR (v := (some x34)) (dc_X10_init 17 rfl) ho fl_X10_19_8_17 (fun _ _ => rfl) (Or.inr ⟨rfl, by rw [hM]; rfl, rfl⟩) rfl (fun h36 e36 => ?_)
  refine S_aload_n (dc_X10_init 18 rfl) rfl ?_
  refine S_sipush_ 1024 (dc_X10_init 19 rfl) rfl ?_
  refine S_newaB (t := 0) (dc_X10_init 20 rfl) (by decide) rfl q311 (fun l43 x43 h43 v43 u43 w43 => ?_)
  refine S_putR (v := (some x43)) (dc_X10_init 21 rfl) ho fl_X10_22_8_18 (fun _ _ => rfl) (Or.inr ⟨rfl, by rw [hM]; rfl, rfl⟩) rfl (fun h45 e45 => ?_)
  refine S_aload_n (dc_X10_init 22 rfl) rfl ?_
  refine S_sipush_ 1928 (dc_X10_init 23 rfl) rfl ?_
  refine S_newaB (t := 0) (dc_X10_init 24 rfl) (by decide) rfl q311 (fun l52 x52 h52 v52 u52 w52 => ?_)
  refine S_putR (v := (some x52)) (dc_X10_init 25 rfl) ho fl_X10_25_8_19 (fun _ _ => rfl) (Or.inr ⟨rfl, by rw [hM]; rfl, rfl⟩) rfl (fun h54 e54 => ?_)
  refine S_aload_n (dc_X10_init 26 rfl) rfl ?_
  refine S_bipush_ 8 (dc_X10_init 27 rfl) rfl ?_
  refine S_newaB (t := 3) (dc_X10_init 28 rfl) (by decide) rfl q1625 (fun l60 x60 h60 v60 u60 w60 => ?_)
  refine S_putR (v := (some x60)) (dc_X10_init 29 rfl) ho fl_X10_28_8_20 (fun _ _ => rfl) (Or.inr ⟨rfl, by rw [hM]; rfl, rfl⟩) rfl (fun h62 e62 => ?_)
  refine S_aload_n (dc_X10_init 30 rfl) rfl ?_
  refine S_bipush_ 8 (dc_X10_init 31 rfl) rfl ?_
  refine S_newaB (t := 3) (dc_X10_init 32 rfl) (by decide) rfl q1625 (fun l68 x68 h68 v68 u68 w68 => ?_)
  refine S_putR (v := (some x68)) (dc_X10_init 33 rfl) ho fl_X10_32_8_21 (fun _ _ => rfl) (Or.inr ⟨rfl, by rw [hM]; rfl, rfl⟩) rfl (fun h70 e70 => ?_)
  refine S_aload_n (dc_X10_init 34 rfl) rfl ?_
  refine S_bipush_ 64 (dc_X10_init 35 rfl) rfl ?_
  refine S_newaB (t := 3) (dc_X10_init 36 rfl) (by decide) rfl q1625 (fun l76 x76 h76 v76 u76 w76 => ?_)
  refine S_putR (v := (some x76)) (dc_X10_init 37 rfl) ho fl_X10_35_8_22 (fun _ _ => rfl) (Or.inr ⟨rfl, by rw [hM]; rfl, rfl⟩) rfl (fun h78 e78 => ?_)
  refine S_aload_n (dc_X10_init 38 rfl) rfl ?_
  refine S_bipush_ 20 (dc_X10_init 39 rfl) rfl ?_
  refine S_newaB (t := 3) (dc_X10_init 40 rfl) (by decide) rfl q1625 (fun l84 x84 h84 v84 u84 w84 => ?_)
  refine S_putR (v := (some x84)) (dc_X10_init 41 rfl) ho fl_X10_38_8_23 (fun _ _ => rfl) (Or.inr ⟨rfl, by rw [hM]; rfl, rfl⟩) rfl (fun h86 e86 => ?_)
  refine S_aload_n (dc_X10_init 42 rfl) rfl ?_
  refine S_bipush_ 16 (dc_X10_init 43 rfl) rfl ?_
  refine S_newaB (t := 3) (dc_X10_init 44 rfl) (by decide) rfl q1625 (fun l92 x92 h92 v92 u92 w92 => ?_)
  refine S_putR (v := (some x92)) (dc_X10_init 45 rfl) ho fl_X10_41_8_24 (fun _ _ => rfl) (Or.inr ⟨rfl, by rw [hM]; rfl, rfl⟩) rfl (fun h94 e94 => ?_)
  refine S_aload_n (dc_X10_init 46 rfl) rfl ?_
  refine S_bipush_ 40 (dc_X10_init 47 rfl) rfl ?_
  refine S_newaB (t := 3) (dc_X10_init 48 rfl) (by decide) rfl q1625 (fun l100 x100 h100 v100 u100 w100 => ?_)
  refine S_putR (v := (some x100)) (dc_X10_init 49 rfl) ho fl_X10_44_8_25 (fun _ _ => rfl) (Or.inr ⟨rfl, by rw [hM]; rfl, rfl⟩) rfl (fun h102 e102 => ?_)
  refine S_aload_n (dc_X10_init 50 rfl) rfl ?_
  refine S_iconst_ 2 (dc_X10_init 51 rfl) rfl ?_
  refine S_newaB (t := 2) (dc_X10_init 52 rfl) (by decide) rfl q282 (fun l107 x107 h107 v107 u107 w107 => ?_)
  refine S_putR (v := (some x107)) (dc_X10_init 53 rfl) ho fl_X10_47_8_26 (fun _ _ => rfl) (Or.inr ⟨rfl, by rw [hM]; rfl, rfl⟩) rfl (fun h109 e109 => ?_)
  refine S_aload_n (dc_X10_init 54 rfl) rfl ?_
  refine S_bipush_ 16 (dc_X10_init 55 rfl) rfl ?_
  refine S_newaB (t := 0) (dc_X10_init 56 rfl) (by decide) rfl q311 (fun l115 x115 h115 v115 u115 w115 => ?_)
  refine S_putR (v := (some x115)) (dc_X10_init 57 rfl) ho fl_X10_51_8_28 (fun _ _ => rfl) (Or.inr ⟨rfl, by rw [hM]; rfl, rfl⟩) rfl (fun h117 e117 => ?_)
  refine S_aload_n (dc_X10_init 58 rfl) rfl ?_
  refine S_bipush_ 16 (dc_X10_init 59 rfl) rfl ?_
  refine S_newaB (t := 0) (dc_X10_init 60 rfl) (by decide) rfl q311 (fun l123 x123 h123 v123 u123 w123 => ?_)
  refine S_putR (v := (some x123)) (dc_X10_init 61 rfl) ho fl_X10_54_8_29 (fun _ _ => rfl) (Or.inr ⟨rfl, by rw [hM]; rfl, rfl⟩) rfl (fun h125 e125 => ?_)
  refine S_aload_n (dc_X10_init 62 rfl) rfl ?_
  refine S_bipush_ 16 (dc_X10_init 63 rfl) rfl ?_
  refine S_newaB (t := 0) (dc_X10_init 64 rfl) (by decide) rfl q311 (fun l131 x131 h131 v131 u131 w131 => ?_)
  refine S_putR (v := (some x131)) (dc_X10_init 65 rfl) ho fl_X10_57_8_30 (fun _ _ => rfl) (Or.inr ⟨rfl, by rw [hM]; rfl, rfl⟩) rfl (fun h133 e133 => ?_)
  refine S_aload_n (dc_X10_init 66 rfl) rfl ?_
  refine S_bipush_ 16 (dc_X10_init 67 rfl) rfl ?_
  refine S_newaB (t := 0) (dc_X10_init 68 rfl) (by decide) rfl q311 (fun l139 x139 h139 v139 u139 w139 => ?_)
  refine S_putR (v := (some x139)) (dc_X10_init 69 rfl) ho fl_X10_60_8_31 (fun _ _ => rfl) (Or.inr ⟨rfl, by rw [hM]; rfl, rfl⟩) rfl (fun h141 e141 => ?_)
  refine S_aload_n (dc_X10_init 70 rfl) rfl ?_
  refine S_bipush_ 16 (dc_X10_init 71 rfl) rfl ?_
  refine S_newaB (t := 0) (dc_X10_init 72 rfl) (by decide) rfl q311 (fun l147 x147 h147 v147 u147 w147 => ?_)
  refine S_putR (v := (some x147)) (dc_X10_init 73 rfl) ho fl_X10_63_8_32 (fun _ _ => rfl) (Or.inr ⟨rfl, by rw [hM]; rfl, rfl⟩) rfl (fun h149 e149 => ?_)
  refine S_aload_n (dc_X10_init 74 rfl) rfl ?_
  refine S_sipush_ 200 (dc_X10_init 75 rfl) rfl ?_
  refine S_newaB (t := 0) (dc_X10_init 76 rfl) (by decide) rfl q311 (fun l156 x156 h156 v156 u156 w156 => ?_)
  refine S_putR (v := (some x156)) (dc_X10_init 77 rfl) ho fl_X10_66_8_35 (fun _ _ => rfl) (Or.inr ⟨rfl, by rw [hM]; rfl, rfl⟩) rfl (fun h158 e158 => ?_)
  refine S_aload_n (dc_X10_init 78 rfl) rfl ?_
  refine S_bipush_ 100 (dc_X10_init 79 rfl) rfl ?_
  refine S_newaB (t := 0) (dc_X10_init 80 rfl) (by decide) rfl q311 (fun l164 x164 h164 v164 u164 w164 => ?_)
  refine S_putR (v := (some x164)) (dc_X10_init 81 rfl) ho fl_X10_69_8_38 (fun _ _ => rfl) (Or.inr ⟨rfl, by rw [hM]; rfl, rfl⟩) rfl (fun h166 e166 => ?_)
  refine S_aload_n (dc_X10_init 82 rfl) rfl ?_
  refine S_bipush_ 100 (dc_X10_init 83 rfl) rfl ?_
  refine S_newaB (t := 0) (dc_X10_init 84 rfl) (by decide) rfl q311 (fun l172 x172 h172 v172 u172 w172 => ?_)
  refine S_putR (v := (some x172)) (dc_X10_init 85 rfl) ho fl_X10_72_8_39 (fun _ _ => rfl) (Or.inr ⟨rfl, by rw [hM]; rfl, rfl⟩) rfl (fun h174 e174 => ?_)
  refine S_aload_n (dc_X10_init 86 rfl) rfl ?_
  refine S_bipush_ 100 (dc_X10_init 87 rfl) rfl ?_
  refine S_newaB (t := 0) (dc_X10_init 88 rfl) (by decide) rfl q311 (fun l180 x180 h180 v180 u180 w180 => ?_)
  refine S_putR (v := (some x180)) (dc_X10_init 89 rfl) ho fl_X10_75_8_40 (fun _ _ => rfl) (Or.inr ⟨rfl, by rw [hM]; rfl, rfl⟩) rfl (fun h182 e182 => ?_)
  refine S_aload_n (dc_X10_init 90 rfl) rfl ?_
  refine S_ldc 46656 (dc_X10_init 91 rfl) ho q1470 ?_
  refine S_newaB (t := 0) (dc_X10_init 92 rfl) (by decide) rfl q311 (fun l188 x188 h188 v188 u188 w188 => ?_)
  refine S_putR (v := (some x188)) (dc_X10_init 93 rfl) ho fl_X10_79_8_41 (fun _ _ => rfl) (Or.inr ⟨rfl, by rw [hM]; rfl, rfl⟩) rfl (fun h190 e190 => ?_)
  refine S_aload_n (dc_X10_init 94 rfl) rfl ?_
  refine S_ldc 46656 (dc_X10_init 95 rfl) ho q1470 ?_
  refine S_newaB (t := 0) (dc_X10_init 96 rfl) (by decide) rfl q311 (fun l196 x196 h196 v196 u196 w196 => ?_)
  refine S_putR (v := (some x196)) (dc_X10_init 97 rfl) ho fl_X10_82_8_42 (fun _ _ => rfl) (Or.inr ⟨rfl, by rw [hM]; rfl, rfl⟩) rfl (fun h198 e198 => ?_)
  refine S_aload_n (dc_X10_init 98 rfl) rfl ?_
  refine S_bipush_ 8 (dc_X10_init 99 rfl) rfl ?_
  refine S_newaB (t := 0) (dc_X10_init 100 rfl) (by decide) rfl q311 (fun l204 x204 h204 v204 u204 w204 => ?_)
  refine S_putR (v := (some x204)) (dc_X10_init 101 rfl) ho fl_X10_85_8_43 (fun _ _ => rfl) (Or.inr ⟨rfl, by rw [hM]; rfl, rfl⟩) rfl (fun h206 e206 => ?_)
  refine S_aload_n (dc_X10_init 102 rfl) rfl ?_
  refine S_sipush_ 240 (dc_X10_init 103 rfl) rfl ?_
  refine S_newaB (t := 0) (dc_X10_init 104 rfl) (by decide) rfl q311 (fun l213 x213 h213 v213 u213 w213 => ?_)
  refine S_putR (v := (some x213)) (dc_X10_init 105 rfl) ho fl_X10_88_8_44 (fun _ _ => rfl) (Or.inr ⟨rfl, by rw [hM]; rfl, rfl⟩) rfl (fun h215 e215 => ?_)
  refine S_aload_n (dc_X10_init 106 rfl) rfl ?_
  refine S_bipush_ 20 (dc_X10_init 107 rfl) rfl ?_
  refine S_newaB (t := 3) (dc_X10_init 108 rfl) (by decide) rfl q1625 (fun l221 x221 h221 v221 u221 w221 => ?_)
  refine S_putR (v := (some x221)) (dc_X10_init 109 rfl) ho fl_X10_91_8_45 (fun _ _ => rfl) (Or.inr ⟨rfl, by rw [hM]; rfl, rfl⟩) rfl (fun h223 e223 => ?_)
  exact S_vret (dc_X10_init 110 rfl) hT (fun q => by cases q; exact hr)
abbrev cX10_thrown : ByteArray := prog_18_method_2_code
def yX10_thrown : MethodName := ⟨"PegBandsModel", "thrown", "()I"⟩
def tb_X10_thrown : List (Nat × Instr × Nat) := [(0, .aload_n 0, 1), (1, .getfield 94, 3), (4, .ireturn, 1)]
theorem tk_X10_thrown : ∀ q ∈ tb_X10_thrown, decode cX10_thrown q.1 = .ok q.2 := by decide +kernel
theorem dc_X10_thrown (k : Nat) {pc n : Nat} {i : Instr} (h : tb_X10_thrown[k]? = some (pc, i, n)) : decode cX10_thrown pc = .ok (i, n) := tk_X10_thrown (pc, i, n) (List.mem_of_getElem? h)
abbrev mX10_thrown : e_M := (yX10_thrown, cX10_thrown, 1, some (.int), [])
theorem ok_X10_thrown : e_mok mX10_thrown 0 := ⟨q1629, q119, by decide +kernel, fun sig h => by cases h; rfl⟩
theorem fl_X10_94_8_0 : e_FL "PegBandsModel" 94 8 0 := ⟨_, rfl, by decide, Or.inl q1471⟩
def f_X10_thrown (h : e_H) (a0 : Nat) : Option Int32 :=
  Option.bind (e_fI h a0 8 0) (fun x1 =>
  some x1)
set_option maxHeartbeats 4000000 in
set_option maxRecDepth 100000 in
theorem ct_X10_thrown {l : Launch} {D : e_D} {B : Heap} {d : Nat} {h : e_H} {a0 : Nat} {v : Int32} (hd : 1 ≤ d) (e : f_X10_thrown h a0 = some v) : e_Run l D B d mX10_thrown [.ref a0] h (.ok (some (.int v)), h) := by
  refine e_start [some (.ref a0)] (by decide) rfl rfl rfl (Nat.le_of_ble_eq_true rfl) (fun K hl0 hD0 hB0 hM hd0 hr => ?_)
  subst hl0 hD0 hB0 hd0
  have ho : (k_M K).1.cls = "PegBandsModel" := by rw [hM]; rfl
  have hT : (k_M K).2.2.2.1 = some (.int) := by rw [hM]
  refine (show Sx K cX10_thrown 0 [some (.ref a0)] [] h (f_X10_thrown h a0) (fun w => w = v) from ?_) _ e rfl
  clear e
  unfold f_X10_thrown
  refine S_aload_n (dc_X10_thrown 0 rfl) rfl ?_
  refine S_getI (dc_X10_thrown 1 rfl) ho fl_X10_94_8_0 (fun _ _ => rfl) (fun x1 e1 => ?_)
  exact S_iret (dc_X10_thrown 2 rfl) hT rfl (fun q => by cases q; exact hr)
abbrev cX10_come : ByteArray := prog_18_method_4_code
def yX10_come : MethodName := ⟨"PegBandsModel", "come", "(I)V"⟩
def tb_X10_come : List (Nat × Instr × Nat) := [(0, .bipush 24, 2), (2, .istore_n 2, 1), (3, .iload_n 2, 1), (4, .ifCond .lt 35, 3), (7, .aload_n 0, 1), (8, .getfield 7, 3), (11, .aload_n 0, 1), (12, .getfield 98, 3), (15, .iload_n 1, 1), (16, .iload_n 2, 1), (17, .iushr, 1), (18, .sipush 255, 3), (21, .iand, 1), (22, .iastore, 1), (23, .aload_n 0, 1), (24, .dup, 1), (25, .getfield 98, 3), (28, .iconst 1, 1), (29, .iadd, 1), (30, .putfield 98, 3), (33, .iinc 2 (-8), 3), (36, .goto (-33), 3), (39, .return_, 1)]
theorem tk_X10_come : ∀ q ∈ tb_X10_come, decode cX10_come q.1 = .ok q.2 := by decide +kernel
theorem dc_X10_come (k : Nat) {pc n : Nat} {i : Instr} (h : tb_X10_come[k]? = some (pc, i, n)) : decode cX10_come pc = .ok (i, n) := tk_X10_come (pc, i, n) (List.mem_of_getElem? h)
abbrev mX10_come : e_M := (yX10_come, cX10_come, 3, none, [])
theorem ok_X10_come : e_mok mX10_come 1 := ⟨q1637, q119, by decide +kernel, fun sig h => by cases h; rfl⟩
theorem fl_X10_98_8_2 : e_FL "PegBandsModel" 98 8 2 := ⟨_, rfl, by decide, Or.inl q1473⟩
def lp_X10_come_3 (F : Nat) (a0 : Nat) (a1 : Int32) : Nat → Int32 → e_H → Option (e_H)
  | 0, _, _ => none
  | n + 1, x2_3, h_3 =>
    if x2_3 < 0 then
      some h_3
    else
      Option.bind (e_fA h_3 a0 8 1) (fun x8 =>
      Option.bind (e_fI h_3 a0 8 2) (fun x12 =>
      Option.bind (e_wI h_3 x8 0 x12 (((a1.toUInt32 >>> (x2_3.toUInt32 &&& Int32.toUInt32 31)).toInt32) &&& 255)) (fun h22 =>
      Option.bind (e_fI h22 a0 8 2) (fun x25 =>
      Option.bind (e_gI h22 a0 8 2 (x25 + 1)) (fun h30 =>
      Option.bind (some (x2_3 + (-8))) (fun x33 =>
      lp_X10_come_3 F a0 a1 n x33 h30))))))
def f_X10_come (F : Nat) (h : e_H) (a0 : Nat) (a1 : Int32) : Option e_H :=
  Option.bind (
      lp_X10_come_3 F a0 a1 F 24 h
    : Option (e_H)) (fun h39_1 =>
  some h39_1)
set_option maxHeartbeats 4000000 in
set_option maxRecDepth 100000 in
theorem ct_X10_come {l : Launch} {D : e_D} {B : Heap} {F : Nat} {d : Nat} {h : e_H} {a0 : Nat} {a1 : Int32} {h1 : e_H} (hd : 1 ≤ d) (e : f_X10_come F h a0 a1 = some h1) : e_Run l D B d mX10_come [.ref a0, .int a1] h (.ok none, h1) := by
  refine e_start [some (.ref a0), some (.int a1), none] (by decide) rfl rfl rfl (Nat.le_of_ble_eq_true rfl) (fun K hl0 hD0 hB0 hM hd0 hr => ?_)
  subst hl0 hD0 hB0 hd0
  have ho : (k_M K).1.cls = "PegBandsModel" := by rw [hM]; rfl
  have hT : (k_M K).2.2.2.1 = none := by rw [hM]
  refine (show Sx K cX10_come 0 [some (.ref a0), some (.int a1), none] [] h (f_X10_come F h a0 a1) (fun w => w = h1) from ?_) _ e rfl
  clear e
  unfold f_X10_come
  refine S_bipush_ 24 (dc_X10_come 0 rfl) rfl ?_
  refine S_istore_n (L' := [some (.ref a0), some (.int a1), some (.int 24)]) (dc_X10_come 1 rfl) rfl ?_
  refine Sx.regK1 (pc2 := 39) (L2 := fun (h39_1 : e_H) => [none, none, none]) (st2 := fun (h39_1 : e_H) => []) (h2 := fun (h39_1 : e_H) => h39_1) ?_ (fun Q1 hK1 => ?_)
  · intro h39_1
    show Sx K cX10_come 39 [none, none, none] [] h39_1 _ _
    exact S_vret (dc_X10_come 22 rfl) hT (fun q => by cases q; exact hr)
  · have hK1 : ∀ (h39_1 : e_H), Sx K cX10_come 39 [none, none, none] [] h39_1 (some h39_1) Q1 := hK1
    have ih1 : ∀ (n : Nat) (x2_3 : Int32) (h_3 : e_H), Sx K cX10_come 3 [some (.ref a0), some (.int a1), some (.int x2_3)] [] h_3 (lp_X10_come_3 F a0 a1 n x2_3 h_3) Q1 := by
      intro n
      induction n with
      | zero => intro x2_3 h_3; exact Sx.none
      | succ n ih1 =>
        intro x2_3 h_3
        rw [lp_X10_come_3.eq_2]
        refine S_iload_n (dc_X10_come 2 rfl) rfl ?_
        refine S_if_lt 39 (dc_X10_come 3 rfl) rfl (fun c4 => ?_) (fun c4 => ?_)
        · refine Sx.cut [false, false, false] ?_
          exact hK1 h_3
        · refine S_aload_n (dc_X10_come 4 rfl) rfl ?_
          refine S_getA (dc_X10_come 5 rfl) ho fl_X10_7_8_1 (fun _ _ => rfl) (fun x8 e8 => ?_)
          refine S_aload_n (dc_X10_come 6 rfl) rfl ?_
          refine S_getI (dc_X10_come 7 rfl) ho fl_X10_98_8_2 (fun _ _ => rfl) (fun x12 e12 => ?_)
          refine S_iload_n (dc_X10_come 8 rfl) rfl ?_
          refine S_iload_n (dc_X10_come 9 rfl) rfl ?_
          refine S_iushr (dc_X10_come 10 rfl) ?_
          refine S_sipush_ 255 (dc_X10_come 11 rfl) rfl ?_
          refine S_iand (dc_X10_come 12 rfl) ?_
          refine S_iast (dc_X10_come 13 rfl) (fun h22 e22 => ?_)
          refine S_aload_n (dc_X10_come 14 rfl) rfl ?_
          refine S_dup (dc_X10_come 15 rfl) rfl ?_
          refine S_getI (dc_X10_come 16 rfl) ho fl_X10_98_8_2 (fun _ _ => rfl) (fun x25 e25 => ?_)
          refine S_iconst_ 1 (dc_X10_come 17 rfl) rfl ?_
          refine S_iadd (dc_X10_come 18 rfl) ?_
          refine S_putI (dc_X10_come 19 rfl) ho fl_X10_98_8_2 (fun _ _ => rfl) (Or.inl rfl) rfl rfl (fun h30 e30 => ?_)
          refine S_iincN (-8) (L' := fun x33 => [some (.ref a0), some (.int a1), some (.int x33)]) (dc_X10_come 20 rfl) rfl rfl (fun _ => rfl) (fun x33 n33 => ?_)
          refine S_goto 3 (dc_X10_come 21 rfl) rfl ?_
          exact ih1 x33 h30
    exact ih1 F 24 h
abbrev cX10_feed : ByteArray := prog_18_method_5_code
def yX10_feed : MethodName := ⟨"PegBandsModel", "feed", "(IIIII)I"⟩
def tb_X10_feed : List (Nat × Instr × Nat) := [(0, .aload_n 0, 1), (1, .iconst 0, 1), (2, .putfield 94, 3), (5, .aload_n 0, 1), (6, .getfield 98, 3), (9, .bipush 20, 2), (11, .iadd, 1), (12, .sipush 640, 3), (15, .if_icmp .le 5, 3), (18, .iconst (-1), 1), (19, .ireturn, 1), (20, .aload_n 0, 1), (21, .iload_n 1, 1), (22, .invokevirtual 101, 3), (25, .aload_n 0, 1), (26, .iload_n 2, 1), (27, .invokevirtual 101, 3), (30, .aload_n 0, 1), (31, .iload_n 3, 1), (32, .invokevirtual 101, 3), (35, .aload_n 0, 1), (36, .iload 4, 2), (38, .invokevirtual 101, 3), (41, .aload_n 0, 1), (42, .iload 5, 2), (44, .invokevirtual 101, 3), (47, .aload_n 0, 1), (48, .getfield 98, 3), (51, .ireturn, 1)]
theorem tk_X10_feed : ∀ q ∈ tb_X10_feed, decode cX10_feed q.1 = .ok q.2 := by decide +kernel
theorem dc_X10_feed (k : Nat) {pc n : Nat} {i : Instr} (h : tb_X10_feed[k]? = some (pc, i, n)) : decode cX10_feed pc = .ok (i, n) := tk_X10_feed (pc, i, n) (List.mem_of_getElem? h)
abbrev mX10_feed : e_M := (yX10_feed, cX10_feed, 6, some (.int), [])
theorem ok_X10_feed : e_mok mX10_feed 5 := ⟨q1633, q119, by decide +kernel, fun sig h => by cases h; rfl⟩
def f_X10_feed (F : Nat) (h : e_H) (a0 : Nat) (a1 : Int32) (a2 : Int32) (a3 : Int32) (a4 : Int32) (a5 : Int32) : Option (Int32 × e_H) :=
  Option.bind (e_gI h a0 8 0 0) (fun h2 =>
  Option.bind (e_fI h2 a0 8 2) (fun x6 =>
  if (x6 + 20) ≤ 640 then
    Option.bind (f_X10_come F h2 a0 a1) (fun h22 =>
    Option.bind (e_is h22 a0 8) (fun _ =>
    Option.bind (f_X10_come F h22 a0 a2) (fun h27 =>
    Option.bind (e_is h27 a0 8) (fun _ =>
    Option.bind (f_X10_come F h27 a0 a3) (fun h32 =>
    Option.bind (e_is h32 a0 8) (fun _ =>
    Option.bind (f_X10_come F h32 a0 a4) (fun h38 =>
    Option.bind (e_is h38 a0 8) (fun _ =>
    Option.bind (f_X10_come F h38 a0 a5) (fun h44 =>
    Option.bind (e_fI h44 a0 8 2) (fun x48 =>
    some (x48, h44)))))))))))
  else
    some ((-1), h2)))
set_option maxHeartbeats 4000000 in
set_option maxRecDepth 100000 in
theorem ct_X10_feed {l : Launch} {D : e_D} {B : Heap} {F : Nat} {d : Nat} {h : e_H} {a0 : Nat} {a1 : Int32} {a2 : Int32} {a3 : Int32} {a4 : Int32} {a5 : Int32} {v : Int32} {h1 : e_H} (hd : 2 ≤ d) (e : f_X10_feed F h a0 a1 a2 a3 a4 a5 = some (v, h1)) : e_Run l D B d mX10_feed [.ref a0, .int a1, .int a2, .int a3, .int a4, .int a5] h (.ok (some (.int v)), h1) := by
  refine e_start [some (.ref a0), some (.int a1), some (.int a2), some (.int a3), some (.int a4), some (.int a5)] (by decide) rfl rfl rfl (Nat.le_of_ble_eq_true rfl) (fun K hl0 hD0 hB0 hM hd0 hr => ?_)
  subst hl0 hD0 hB0 hd0
  have ho : (k_M K).1.cls = "PegBandsModel" := by rw [hM]; rfl
  have hT : (k_M K).2.2.2.1 = some (.int) := by rw [hM]
  refine (show Sx K cX10_feed 0 [some (.ref a0), some (.int a1), some (.int a2), some (.int a3), some (.int a4), some (.int a5)] [] h (f_X10_feed F h a0 a1 a2 a3 a4 a5) (fun w => w = (v, h1)) from ?_) _ e rfl
  clear e
  unfold f_X10_feed
  refine S_aload_n (dc_X10_feed 0 rfl) rfl ?_
  refine S_iconst_ 0 (dc_X10_feed 1 rfl) rfl ?_
  refine S_putI (dc_X10_feed 2 rfl) ho fl_X10_94_8_0 (fun _ _ => rfl) (Or.inl rfl) rfl rfl (fun h2 e2 => ?_)
  refine S_aload_n (dc_X10_feed 3 rfl) rfl ?_
  refine S_getI (dc_X10_feed 4 rfl) ho fl_X10_98_8_2 (fun _ _ => rfl) (fun x6 e6 => ?_)
  refine S_bipush_ 20 (dc_X10_feed 5 rfl) rfl ?_
  refine S_iadd (dc_X10_feed 6 rfl) ?_
  refine S_sipush_ 640 (dc_X10_feed 7 rfl) rfl ?_
  refine S_icmp_le 20 (dc_X10_feed 8 rfl) rfl (fun c15 => ?_) (fun c15 => ?_)
  · refine S_aload_n (dc_X10_feed 11 rfl) rfl ?_
    refine S_iload_n (dc_X10_feed 12 rfl) rfl ?_
    refine S_rwV (d := k_d K - 1) (e_callV (b := a0) (As := [.int a1]) (rest := []) ok_X10_come rfl (Nat.le_of_ble_eq_true rfl) (dc_X10_feed 13 rfl) ho q1634 q1636 (show e_cl[8]? = some (RX10, TX10, 51) from rfl) (e_sel.of qs35) (e_fI_of e6).1 rfl (Nat.le_of_ble_eq_true rfl)) (by omega) (fun _ e => ct_X10_come (by omega) e) (fun h22 e22 => ?_)
    refine S_aload_n (dc_X10_feed 14 rfl) rfl ?_
    refine S_iload_n (dc_X10_feed 15 rfl) rfl ?_
    refine Sx.ask (fun _ i27 => ?_)
    refine S_rwV (d := k_d K - 1) (e_callV (b := a0) (As := [.int a2]) (rest := []) ok_X10_come rfl (Nat.le_of_ble_eq_true rfl) (dc_X10_feed 16 rfl) ho q1634 q1636 (show e_cl[8]? = some (RX10, TX10, 51) from rfl) (e_sel.of qs35) (e_is_of i27) rfl (Nat.le_of_ble_eq_true rfl)) (by omega) (fun _ e => ct_X10_come (by omega) e) (fun h27 e27 => ?_)
    refine S_aload_n (dc_X10_feed 17 rfl) rfl ?_
    refine S_iload_n (dc_X10_feed 18 rfl) rfl ?_
    refine Sx.ask (fun _ i32 => ?_)
    refine S_rwV (d := k_d K - 1) (e_callV (b := a0) (As := [.int a3]) (rest := []) ok_X10_come rfl (Nat.le_of_ble_eq_true rfl) (dc_X10_feed 19 rfl) ho q1634 q1636 (show e_cl[8]? = some (RX10, TX10, 51) from rfl) (e_sel.of qs35) (e_is_of i32) rfl (Nat.le_of_ble_eq_true rfl)) (by omega) (fun _ e => ct_X10_come (by omega) e) (fun h32 e32 => ?_)
    refine S_aload_n (dc_X10_feed 20 rfl) rfl ?_
    refine S_iload (dc_X10_feed 21 rfl) rfl ?_
    refine Sx.ask (fun _ i38 => ?_)
    refine S_rwV (d := k_d K - 1) (e_callV (b := a0) (As := [.int a4]) (rest := []) ok_X10_come rfl (Nat.le_of_ble_eq_true rfl) (dc_X10_feed 22 rfl) ho q1634 q1636 (show e_cl[8]? = some (RX10, TX10, 51) from rfl) (e_sel.of qs35) (e_is_of i38) rfl (Nat.le_of_ble_eq_true rfl)) (by omega) (fun _ e => ct_X10_come (by omega) e) (fun h38 e38 => ?_)
    refine S_aload_n (dc_X10_feed 23 rfl) rfl ?_
    refine S_iload (dc_X10_feed 24 rfl) rfl ?_
    refine Sx.ask (fun _ i44 => ?_)
    refine S_rwV (d := k_d K - 1) (e_callV (b := a0) (As := [.int a5]) (rest := []) ok_X10_come rfl (Nat.le_of_ble_eq_true rfl) (dc_X10_feed 25 rfl) ho q1634 q1636 (show e_cl[8]? = some (RX10, TX10, 51) from rfl) (e_sel.of qs35) (e_is_of i44) rfl (Nat.le_of_ble_eq_true rfl)) (by omega) (fun _ e => ct_X10_come (by omega) e) (fun h44 e44 => ?_)
    refine S_aload_n (dc_X10_feed 26 rfl) rfl ?_
    refine S_getI (dc_X10_feed 27 rfl) ho fl_X10_98_8_2 (fun _ _ => rfl) (fun x48 e48 => ?_)
    exact S_iret (dc_X10_feed 28 rfl) hT rfl (e_rqI hr)
  · refine S_iconst_ (-1) (dc_X10_feed 9 rfl) rfl ?_
    exact S_iret (dc_X10_feed 10 rfl) hT rfl (e_rqI hr)
abbrev cX10_end : ByteArray := prog_18_method_6_code
def yX10_end : MethodName := ⟨"PegBandsModel", "end", "(I)Z"⟩
def tb_X10_end : List (Nat × Instr × Nat) := [(0, .aload_n 0, 1), (1, .iconst 0, 1), (2, .putfield 94, 3), (5, .iload_n 1, 1), (6, .ifCond .lt 11, 3), (9, .iload_n 1, 1), (10, .aload_n 0, 1), (11, .getfield 98, 3), (14, .if_icmp .le 5, 3), (17, .iconst 0, 1), (18, .ireturn, 1), (19, .aload_n 0, 1), (20, .iload_n 1, 1), (21, .putfield 98, 3), (24, .iconst 1, 1), (25, .ireturn, 1)]
theorem tk_X10_end : ∀ q ∈ tb_X10_end, decode cX10_end q.1 = .ok q.2 := by decide +kernel
theorem dc_X10_end (k : Nat) {pc n : Nat} {i : Instr} (h : tb_X10_end[k]? = some (pc, i, n)) : decode cX10_end pc = .ok (i, n) := tk_X10_end (pc, i, n) (List.mem_of_getElem? h)
abbrev mX10_end : e_M := (yX10_end, cX10_end, 2, some (.boolean), [])
theorem ok_X10_end : e_mok mX10_end 1 := ⟨q1641, q119, by decide +kernel, fun sig h => by cases h; rfl⟩
def f_X10_end (h : e_H) (a0 : Nat) (a1 : Int32) : Option (Int32 × e_H) :=
  Option.bind (e_gI h a0 8 0 0) (fun h2 =>
  if a1 < 0 then
    some (0, h2)
  else
    Option.bind (e_fI h2 a0 8 2) (fun x11 =>
    if a1 ≤ x11 then
      Option.bind (e_gI h2 a0 8 2 a1) (fun h21 =>
      some (1, h21))
    else
      some (0, h2)))
set_option maxHeartbeats 4000000 in
set_option maxRecDepth 100000 in
theorem ct_X10_end {l : Launch} {D : e_D} {B : Heap} {d : Nat} {h : e_H} {a0 : Nat} {a1 : Int32} {v : Int32} {h1 : e_H} (hd : 1 ≤ d) (e : f_X10_end h a0 a1 = some (v, h1)) : e_Run l D B d mX10_end [.ref a0, .int a1] h (.ok (some (.int v)), h1) := by
  refine e_start [some (.ref a0), some (.int a1)] (by decide) rfl rfl rfl (Nat.le_of_ble_eq_true rfl) (fun K hl0 hD0 hB0 hM hd0 hr => ?_)
  subst hl0 hD0 hB0 hd0
  have ho : (k_M K).1.cls = "PegBandsModel" := by rw [hM]; rfl
  have hT : (k_M K).2.2.2.1 = some (.boolean) := by rw [hM]
  refine (show Sx K cX10_end 0 [some (.ref a0), some (.int a1)] [] h (f_X10_end h a0 a1) (fun w => w = (v, h1)) from ?_) _ e rfl
  clear e
  unfold f_X10_end
  refine S_aload_n (dc_X10_end 0 rfl) rfl ?_
  refine S_iconst_ 0 (dc_X10_end 1 rfl) rfl ?_
  refine S_putI (dc_X10_end 2 rfl) ho fl_X10_94_8_0 (fun _ _ => rfl) (Or.inl rfl) rfl rfl (fun h2 e2 => ?_)
  refine S_iload_n (dc_X10_end 3 rfl) rfl ?_
  refine S_if_lt 17 (dc_X10_end 4 rfl) rfl (fun c6 => ?_) (fun c6 => ?_)
  · refine S_iconst_ 0 (dc_X10_end 9 rfl) rfl ?_
    exact S_iret (dc_X10_end 10 rfl) hT rfl (e_rqI hr)
  · refine S_iload_n (dc_X10_end 5 rfl) rfl ?_
    refine S_aload_n (dc_X10_end 6 rfl) rfl ?_
    refine S_getI (dc_X10_end 7 rfl) ho fl_X10_98_8_2 (fun _ _ => rfl) (fun x11 e11 => ?_)
    refine S_icmp_le 19 (dc_X10_end 8 rfl) rfl (fun c14 => ?_) (fun c14 => ?_)
    · refine S_aload_n (dc_X10_end 11 rfl) rfl ?_
      refine S_iload_n (dc_X10_end 12 rfl) rfl ?_
      refine S_putI (dc_X10_end 13 rfl) ho fl_X10_98_8_2 (fun _ _ => rfl) (Or.inl rfl) rfl rfl (fun h21 e21 => ?_)
      refine S_iconst_ 1 (dc_X10_end 14 rfl) rfl ?_
      exact S_iret (dc_X10_end 15 rfl) hT rfl (e_rqI hr)
    · refine S_iconst_ 0 (dc_X10_end 9 rfl) rfl ?_
      exact S_iret (dc_X10_end 10 rfl) hT rfl (e_rqI hr)
abbrev cX10_take : ByteArray := prog_18_method_7_code
def yX10_take : MethodName := ⟨"PegBandsModel", "take", "()I"⟩
def tb_X10_take : List (Nat × Instr × Nat) := [(0, .aload_n 0, 1), (1, .getfield 98, 3), (4, .istore_n 1, 1), (5, .aload_n 0, 1), (6, .iconst 0, 1), (7, .putfield 98, 3), (10, .iload_n 1, 1), (11, .ireturn, 1)]
theorem tk_X10_take : ∀ q ∈ tb_X10_take, decode cX10_take q.1 = .ok q.2 := by decide +kernel
theorem dc_X10_take (k : Nat) {pc n : Nat} {i : Instr} (h : tb_X10_take[k]? = some (pc, i, n)) : decode cX10_take pc = .ok (i, n) := tk_X10_take (pc, i, n) (List.mem_of_getElem? h)
abbrev mX10_take : e_M := (yX10_take, cX10_take, 2, some (.int), [])
theorem ok_X10_take : e_mok mX10_take 0 := ⟨q1653, q119, by decide +kernel, fun sig h => by cases h; rfl⟩
def f_X10_take (h : e_H) (a0 : Nat) : Option (Int32 × e_H) :=
  Option.bind (e_fI h a0 8 2) (fun x1 =>
  Option.bind (e_gI h a0 8 2 0) (fun h7 =>
  some (x1, h7)))
set_option maxHeartbeats 4000000 in
set_option maxRecDepth 100000 in
theorem ct_X10_take {l : Launch} {D : e_D} {B : Heap} {d : Nat} {h : e_H} {a0 : Nat} {v : Int32} {h1 : e_H} (hd : 1 ≤ d) (e : f_X10_take h a0 = some (v, h1)) : e_Run l D B d mX10_take [.ref a0] h (.ok (some (.int v)), h1) := by
  refine e_start [some (.ref a0), none] (by decide) rfl rfl rfl (Nat.le_of_ble_eq_true rfl) (fun K hl0 hD0 hB0 hM hd0 hr => ?_)
  subst hl0 hD0 hB0 hd0
  have ho : (k_M K).1.cls = "PegBandsModel" := by rw [hM]; rfl
  have hT : (k_M K).2.2.2.1 = some (.int) := by rw [hM]
  refine (show Sx K cX10_take 0 [some (.ref a0), none] [] h (f_X10_take h a0) (fun w => w = (v, h1)) from ?_) _ e rfl
  clear e
  unfold f_X10_take
  refine S_aload_n (dc_X10_take 0 rfl) rfl ?_
  refine S_getI (dc_X10_take 1 rfl) ho fl_X10_98_8_2 (fun _ _ => rfl) (fun x1 e1 => ?_)
  refine S_istore_n (L' := [some (.ref a0), some (.int x1)]) (dc_X10_take 2 rfl) rfl ?_
  refine S_aload_n (dc_X10_take 3 rfl) rfl ?_
  refine S_iconst_ 0 (dc_X10_take 4 rfl) rfl ?_
  refine S_putI (dc_X10_take 5 rfl) ho fl_X10_98_8_2 (fun _ _ => rfl) (Or.inl rfl) rfl rfl (fun h7 e7 => ?_)
  refine S_iload_n (dc_X10_take 6 rfl) rfl ?_
  exact S_iret (dc_X10_take 7 rfl) hT rfl (e_rqI hr)
abbrev cX10_isLetter : ByteArray := prog_18_method_15_code
def yX10_isLetter : MethodName := ⟨"PegBandsModel", "isLetter", "(I)Z"⟩
def tb_X10_isLetter : List (Nat × Instr × Nat) := [(0, .iload_n 0, 1), (1, .bipush 97, 2), (3, .if_icmp .lt 13, 3), (6, .iload_n 0, 1), (7, .bipush 122, 2), (9, .if_icmp .gt 7, 3), (12, .iconst 1, 1), (13, .goto 4, 3), (16, .iconst 0, 1), (17, .ireturn, 1)]
theorem tk_X10_isLetter : ∀ q ∈ tb_X10_isLetter, decode cX10_isLetter q.1 = .ok q.2 := by decide +kernel
theorem dc_X10_isLetter (k : Nat) {pc n : Nat} {i : Instr} (h : tb_X10_isLetter[k]? = some (pc, i, n)) : decode cX10_isLetter pc = .ok (i, n) := tk_X10_isLetter (pc, i, n) (List.mem_of_getElem? h)
abbrev mX10_isLetter : e_M := (yX10_isLetter, cX10_isLetter, 1, some (.boolean), [])
theorem ok_X10_isLetter : e_mok mX10_isLetter 1 := ⟨q1660, q119, by decide +kernel, fun sig h => by cases h; rfl⟩
def f_X10_isLetter (a0 : Int32) : Option Int32 :=
  if a0 < 97 then
    some 0
  else
    if 122 < a0 then
      some 0
    else
      some 1
set_option maxHeartbeats 4000000 in
set_option maxRecDepth 100000 in
theorem ct_X10_isLetter {l : Launch} {D : e_D} {B : Heap} {d : Nat} {h : e_H} {a0 : Int32} {v : Int32} (hd : 1 ≤ d) (e : f_X10_isLetter a0 = some v) : e_Run l D B d mX10_isLetter [.int a0] h (.ok (some (.int v)), h) := by
  refine e_start [some (.int a0)] (by decide) rfl rfl rfl (Nat.le_of_ble_eq_true rfl) (fun K hl0 hD0 hB0 hM hd0 hr => ?_)
  subst hl0 hD0 hB0 hd0
  have ho : (k_M K).1.cls = "PegBandsModel" := by rw [hM]; rfl
  have hT : (k_M K).2.2.2.1 = some (.boolean) := by rw [hM]
  refine (show Sx K cX10_isLetter 0 [some (.int a0)] [] h (f_X10_isLetter a0) (fun w => w = v) from ?_) _ e rfl
  clear e
  unfold f_X10_isLetter
  refine S_iload_n (dc_X10_isLetter 0 rfl) rfl ?_
  refine S_bipush_ 97 (dc_X10_isLetter 1 rfl) rfl ?_
  refine S_icmp_lt 16 (dc_X10_isLetter 2 rfl) rfl (fun c3 => ?_) (fun c3 => ?_)
  · refine S_iconst_ 0 (dc_X10_isLetter 8 rfl) rfl ?_
    exact S_iret (dc_X10_isLetter 9 rfl) hT rfl (fun q => by cases q; exact hr)
  · refine S_iload_n (dc_X10_isLetter 3 rfl) rfl ?_
    refine S_bipush_ 122 (dc_X10_isLetter 4 rfl) rfl ?_
    refine S_icmp_gt 16 (dc_X10_isLetter 5 rfl) rfl (fun c9 => ?_) (fun c9 => ?_)
    · refine S_iconst_ 0 (dc_X10_isLetter 8 rfl) rfl ?_
      exact S_iret (dc_X10_isLetter 9 rfl) hT rfl (fun q => by cases q; exact hr)
    · refine S_iconst_ 1 (dc_X10_isLetter 6 rfl) rfl ?_
      refine S_goto 17 (dc_X10_isLetter 7 rfl) rfl ?_
      exact S_iret (dc_X10_isLetter 9 rfl) hT rfl (fun q => by cases q; exact hr)
abbrev cX10_isDigit : ByteArray := prog_18_method_14_code
def yX10_isDigit : MethodName := ⟨"PegBandsModel", "isDigit", "(I)Z"⟩
def tb_X10_isDigit : List (Nat × Instr × Nat) := [(0, .iload_n 0, 1), (1, .bipush 48, 2), (3, .if_icmp .lt 13, 3), (6, .iload_n 0, 1), (7, .bipush 57, 2), (9, .if_icmp .gt 7, 3), (12, .iconst 1, 1), (13, .goto 4, 3), (16, .iconst 0, 1), (17, .ireturn, 1)]
theorem tk_X10_isDigit : ∀ q ∈ tb_X10_isDigit, decode cX10_isDigit q.1 = .ok q.2 := by decide +kernel
theorem dc_X10_isDigit (k : Nat) {pc n : Nat} {i : Instr} (h : tb_X10_isDigit[k]? = some (pc, i, n)) : decode cX10_isDigit pc = .ok (i, n) := tk_X10_isDigit (pc, i, n) (List.mem_of_getElem? h)
abbrev mX10_isDigit : e_M := (yX10_isDigit, cX10_isDigit, 1, some (.boolean), [])
theorem ok_X10_isDigit : e_mok mX10_isDigit 1 := ⟨q1663, q119, by decide +kernel, fun sig h => by cases h; rfl⟩
def f_X10_isDigit (a0 : Int32) : Option Int32 :=
  if a0 < 48 then
    some 0
  else
    if 57 < a0 then
      some 0
    else
      some 1
set_option maxHeartbeats 4000000 in
set_option maxRecDepth 100000 in
theorem ct_X10_isDigit {l : Launch} {D : e_D} {B : Heap} {d : Nat} {h : e_H} {a0 : Int32} {v : Int32} (hd : 1 ≤ d) (e : f_X10_isDigit a0 = some v) : e_Run l D B d mX10_isDigit [.int a0] h (.ok (some (.int v)), h) := by
  refine e_start [some (.int a0)] (by decide) rfl rfl rfl (Nat.le_of_ble_eq_true rfl) (fun K hl0 hD0 hB0 hM hd0 hr => ?_)
  subst hl0 hD0 hB0 hd0
  have ho : (k_M K).1.cls = "PegBandsModel" := by rw [hM]; rfl
  have hT : (k_M K).2.2.2.1 = some (.boolean) := by rw [hM]
  refine (show Sx K cX10_isDigit 0 [some (.int a0)] [] h (f_X10_isDigit a0) (fun w => w = v) from ?_) _ e rfl
  clear e
  unfold f_X10_isDigit
  refine S_iload_n (dc_X10_isDigit 0 rfl) rfl ?_
  refine S_bipush_ 48 (dc_X10_isDigit 1 rfl) rfl ?_
  refine S_icmp_lt 16 (dc_X10_isDigit 2 rfl) rfl (fun c3 => ?_) (fun c3 => ?_)
  · refine S_iconst_ 0 (dc_X10_isDigit 8 rfl) rfl ?_
    exact S_iret (dc_X10_isDigit 9 rfl) hT rfl (fun q => by cases q; exact hr)
  · refine S_iload_n (dc_X10_isDigit 3 rfl) rfl ?_
    refine S_bipush_ 57 (dc_X10_isDigit 4 rfl) rfl ?_
    refine S_icmp_gt 16 (dc_X10_isDigit 5 rfl) rfl (fun c9 => ?_) (fun c9 => ?_)
    · refine S_iconst_ 0 (dc_X10_isDigit 8 rfl) rfl ?_
      exact S_iret (dc_X10_isDigit 9 rfl) hT rfl (fun q => by cases q; exact hr)
    · refine S_iconst_ 1 (dc_X10_isDigit 6 rfl) rfl ?_
      refine S_goto 17 (dc_X10_isDigit 7 rfl) rfl ?_
      exact S_iret (dc_X10_isDigit 9 rfl) hT rfl (fun q => by cases q; exact hr)
abbrev cX10_tapeAt : ByteArray := prog_18_method_13_code
def yX10_tapeAt : MethodName := ⟨"PegBandsModel", "tapeAt", "(I)I"⟩
def tb_X10_tapeAt : List (Nat × Instr × Nat) := [(0, .iload_n 1, 1), (1, .aload_n 0, 1), (2, .getfield 109, 3), (5, .if_icmp .ge 12, 3), (8, .aload_n 0, 1), (9, .getfield 7, 3), (12, .iload_n 1, 1), (13, .iaload, 1), (14, .goto 4, 3), (17, .iconst 0, 1), (18, .ireturn, 1)]
theorem tk_X10_tapeAt : ∀ q ∈ tb_X10_tapeAt, decode cX10_tapeAt q.1 = .ok q.2 := by decide +kernel
theorem dc_X10_tapeAt (k : Nat) {pc n : Nat} {i : Instr} (h : tb_X10_tapeAt[k]? = some (pc, i, n)) : decode cX10_tapeAt pc = .ok (i, n) := tk_X10_tapeAt (pc, i, n) (List.mem_of_getElem? h)
abbrev mX10_tapeAt : e_M := (yX10_tapeAt, cX10_tapeAt, 2, some (.int), [])
theorem ok_X10_tapeAt : e_mok mX10_tapeAt 1 := ⟨q1667, q119, by decide +kernel, fun sig h => by cases h; rfl⟩
theorem fl_X10_109_8_3 : e_FL "PegBandsModel" 109 8 3 := ⟨_, rfl, by decide, Or.inl q1474⟩
def f_X10_tapeAt (h : e_H) (a0 : Nat) (a1 : Int32) : Option Int32 :=
  Option.bind (e_fI h a0 8 3) (fun x2 =>
  if x2 ≤ a1 then
    some 0
  else
    Option.bind (e_fA h a0 8 1) (fun x9 =>
    Option.bind (e_aI h x9 0 a1) (fun x13 =>
    some x13)))
set_option maxHeartbeats 4000000 in
set_option maxRecDepth 100000 in
theorem ct_X10_tapeAt {l : Launch} {D : e_D} {B : Heap} {d : Nat} {h : e_H} {a0 : Nat} {a1 : Int32} {v : Int32} (hd : 1 ≤ d) (e : f_X10_tapeAt h a0 a1 = some v) : e_Run l D B d mX10_tapeAt [.ref a0, .int a1] h (.ok (some (.int v)), h) := by
  refine e_start [some (.ref a0), some (.int a1)] (by decide) rfl rfl rfl (Nat.le_of_ble_eq_true rfl) (fun K hl0 hD0 hB0 hM hd0 hr => ?_)
  subst hl0 hD0 hB0 hd0
  have ho : (k_M K).1.cls = "PegBandsModel" := by rw [hM]; rfl
  have hT : (k_M K).2.2.2.1 = some (.int) := by rw [hM]
  refine (show Sx K cX10_tapeAt 0 [some (.ref a0), some (.int a1)] [] h (f_X10_tapeAt h a0 a1) (fun w => w = v) from ?_) _ e rfl
  clear e
  unfold f_X10_tapeAt
  refine S_iload_n (dc_X10_tapeAt 0 rfl) rfl ?_
  refine S_aload_n (dc_X10_tapeAt 1 rfl) rfl ?_
  refine S_getI (dc_X10_tapeAt 2 rfl) ho fl_X10_109_8_3 (fun _ _ => rfl) (fun x2 e2 => ?_)
  refine S_icmp_ge 17 (dc_X10_tapeAt 3 rfl) rfl (fun c5 => ?_) (fun c5 => ?_)
  · refine S_iconst_ 0 (dc_X10_tapeAt 9 rfl) rfl ?_
    exact S_iret (dc_X10_tapeAt 10 rfl) hT rfl (fun q => by cases q; exact hr)
  · refine S_aload_n (dc_X10_tapeAt 4 rfl) rfl ?_
    refine S_getA (dc_X10_tapeAt 5 rfl) ho fl_X10_7_8_1 (fun _ _ => rfl) (fun x9 e9 => ?_)
    refine S_iload_n (dc_X10_tapeAt 6 rfl) rfl ?_
    refine S_iald (dc_X10_tapeAt 7 rfl) (fun x13 e13 => ?_)
    refine S_goto 18 (dc_X10_tapeAt 8 rfl) rfl ?_
    exact S_iret (dc_X10_tapeAt 10 rfl) hT rfl (fun q => by cases q; exact hr)
abbrev cX10_go : ByteArray := prog_18_method_16_code
def yX10_go : MethodName := ⟨"PegBandsModel", "go", "()V"⟩
def tb_X10_go : List (Nat × Instr × Nat) := [(0, .aload_n 0, 1), (1, .getfield 111, 3), (4, .aload_n 0, 1), (5, .getfield 109, 3), (8, .if_icmp .ge 44, 3), (11, .aload_n 0, 1), (12, .getfield 7, 3), (15, .aload_n 0, 1), (16, .getfield 111, 3), (19, .iaload, 1), (20, .bipush 32, 2), (22, .if_icmp .eq 17, 3), (25, .aload_n 0, 1), (26, .getfield 7, 3), (29, .aload_n 0, 1), (30, .getfield 111, 3), (33, .iaload, 1), (34, .bipush 10, 2), (36, .if_icmp .ne 16, 3), (39, .aload_n 0, 1), (40, .dup, 1), (41, .getfield 111, 3), (44, .iconst 1, 1), (45, .iadd, 1), (46, .putfield 111, 3), (49, .goto (-49), 3), (52, .aload_n 0, 1), (53, .aload_n 0, 1), (54, .getfield 111, 3), (57, .putfield 114, 3), (60, .aload_n 0, 1), (61, .getfield 109, 3), (64, .aload_n 0, 1), (65, .getfield 117, 3), (68, .if_icmp .le 28, 3), (71, .aload_n 0, 1), (72, .getfield 114, 3), (75, .aload_n 0, 1), (76, .getfield 117, 3), (79, .if_icmp .lt 17, 3), (82, .aload_n 0, 1), (83, .aload_n 0, 1), (84, .getfield 117, 3), (87, .putfield 114, 3), (90, .aload_n 0, 1), (91, .iconst 1, 1), (92, .putfield 120, 3), (95, .return_, 1), (96, .aload_n 0, 1), (97, .getfield 111, 3), (100, .aload_n 0, 1), (101, .getfield 109, 3), (104, .if_icmp .lt 9, 3), (107, .aload_n 0, 1), (108, .iconst 0, 1), (109, .putfield 120, 3), (112, .return_, 1), (113, .aload_n 0, 1), (114, .getfield 7, 3), (117, .aload_n 0, 1), (118, .getfield 111, 3), (121, .iaload, 1), (122, .istore_n 1, 1), (123, .iload_n 1, 1), (124, .invokestatic 123, 3), (127, .ifCond .ne 77, 3), (130, .iload_n 1, 1), (131, .invokestatic 127, 3), (134, .ifCond .ne 70, 3), (137, .aload_n 0, 1), (138, .iload_n 1, 1), (139, .bipush 59, 2), (141, .if_icmp .eq 39, 3), (144, .iload_n 1, 1), (145, .bipush 45, 2), (147, .if_icmp .eq 33, 3), (150, .iload_n 1, 1), (151, .bipush 60, 2), (153, .if_icmp .eq 27, 3), (156, .iload_n 1, 1), (157, .bipush 61, 2), (159, .if_icmp .eq 21, 3), (162, .iload_n 1, 1), (163, .bipush 62, 2), (165, .if_icmp .eq 15, 3), (168, .iload_n 1, 1), (169, .bipush 40, 2), (171, .if_icmp .eq 9, 3), (174, .iload_n 1, 1), (175, .bipush 41, 2), (177, .if_icmp .ne 7, 3), (180, .iconst 4, 1), (181, .goto 4, 3), (184, .iconst 1, 1), (185, .putfield 120, 3), (188, .aload_n 0, 1), (189, .iload_n 1, 1), (190, .putfield 130, 3), (193, .aload_n 0, 1), (194, .dup, 1), (195, .getfield 111, 3), (198, .iconst 1, 1), (199, .iadd, 1), (200, .putfield 111, 3), (203, .return_, 1), (204, .iload_n 1, 1), (205, .invokestatic 123, 3), (208, .istore_n 2, 1), (209, .iconst 1, 1), (210, .istore_n 3, 1), (211, .aload_n 0, 1), (212, .lconst 0, 1), (213, .putfield 133, 3), (216, .aload_n 0, 1), (217, .iconst 0, 1), (218, .putfield 137, 3), (221, .aload_n 0, 1), (222, .aload_n 0, 1), (223, .getfield 111, 3), (226, .invokevirtual 140, 3), (229, .invokestatic 123, 3), (232, .ifCond .ne 17, 3), (235, .aload_n 0, 1), (236, .aload_n 0, 1), (237, .getfield 111, 3), (240, .invokevirtual 140, 3), (243, .invokestatic 127, 3), (246, .ifCond .eq 110, 3), (249, .aload_n 0, 1), (250, .getfield 7, 3), (253, .aload_n 0, 1), (254, .getfield 111, 3), (257, .iaload, 1), (258, .istore 4, 2), (260, .iload_n 3, 1), (261, .ifCond .eq 16, 3), (264, .iload 4, 2), (266, .invokestatic 123, 3), (269, .iload_n 2, 1), (270, .if_icmp .ne 7, 3), (273, .iconst 1, 1), (274, .goto 4, 3), (277, .iconst 0, 1), (278, .istore_n 3, 1), (279, .aload_n 0, 1), (280, .getfield 111, 3), (283, .aload_n 0, 1), (284, .getfield 114, 3), (287, .isub, 1), (288, .bipush 7, 2), (290, .if_icmp .ge 23, 3), (293, .aload_n 0, 1), (294, .ldc2_w 143, 3), (297, .aload_n 0, 1), (298, .getfield 133, 3), (301, .lmul, 1), (302, .iload 4, 2), (304, .i2l, 1), (305, .ladd, 1), (306, .ldc2_w 145, 3), (309, .lsub, 1), (310, .putfield 133, 3), (313, .aload_n 0, 1), (314, .getfield 111, 3), (317, .aload_n 0, 1), (318, .getfield 114, 3), (321, .isub, 1), (322, .iconst 3, 1), (323, .if_icmp .ge 20, 3), (326, .aload_n 0, 1), (327, .bipush 10, 2), (329, .aload_n 0, 1), (330, .getfield 137, 3), (333, .imul, 1), (334, .iload 4, 2), (336, .iadd, 1), (337, .bipush 48, 2), (339, .isub, 1), (340, .putfield 137, 3), (343, .aload_n 0, 1), (344, .dup, 1), (345, .getfield 111, 3), (348, .iconst 1, 1), (349, .iadd, 1), (350, .putfield 111, 3), (353, .goto (-132), 3), (356, .aload_n 0, 1), (357, .iload_n 3, 1), (358, .ifCond .eq 25, 3), (361, .aload_n 0, 1), (362, .getfield 111, 3), (365, .aload_n 0, 1), (366, .getfield 114, 3), (369, .isub, 1), (370, .iload_n 2, 1), (371, .ifCond .eq 8, 3), (374, .bipush 7, 2), (376, .goto 4, 3), (379, .iconst 3, 1), (380, .if_icmp .le 7, 3), (383, .iconst 1, 1), (384, .goto 12, 3), (387, .iload_n 2, 1), (388, .ifCond .eq 7, 3), (391, .iconst 2, 1), (392, .goto 4, 3), (395, .iconst 3, 1), (396, .putfield 120, 3), (399, .return_, 1)]
theorem tk_X10_go : ∀ q ∈ tb_X10_go, decode cX10_go q.1 = .ok q.2 := by decide +kernel
theorem dc_X10_go (k : Nat) {pc n : Nat} {i : Instr} (h : tb_X10_go[k]? = some (pc, i, n)) : decode cX10_go pc = .ok (i, n) := tk_X10_go (pc, i, n) (List.mem_of_getElem? h)
abbrev mX10_go : e_M := (yX10_go, cX10_go, 5, none, [])
theorem ok_X10_go : e_mok mX10_go 0 := ⟨q1657, q119, by decide +kernel, fun sig h => by cases h; rfl⟩
theorem fl_X10_111_8_5 : e_FL "PegBandsModel" 111 8 5 := ⟨_, rfl, by decide, Or.inl q1476⟩
theorem fl_X10_114_8_6 : e_FL "PegBandsModel" 114 8 6 := ⟨_, rfl, by decide, Or.inl q1477⟩
theorem fl_X10_117_8_4 : e_FL "PegBandsModel" 117 8 4 := ⟨_, rfl, by decide, Or.inl q1475⟩
theorem fl_X10_120_8_7 : e_FL "PegBandsModel" 120 8 7 := ⟨_, rfl, by decide, Or.inl q1478⟩
theorem fl_X10_130_8_9 : e_FL "PegBandsModel" 130 8 9 := ⟨_, rfl, by decide, Or.inl q1480⟩
theorem fl_X10_133_8_13 : e_FL "PegBandsModel" 133 8 13 := ⟨_, rfl, by decide, Or.inl q1484⟩
theorem fl_X10_137_8_8 : e_FL "PegBandsModel" 137 8 8 := ⟨_, rfl, by decide, Or.inl q1479⟩
def lp_X10_go_0 (F : Nat) (a0 : Nat) : Nat → e_H → Option (e_H)
  | 0, _ => none
  | n + 1, h_0 =>
    Option.bind (e_fI h_0 a0 8 5) (fun x1 =>
    Option.bind (e_fI h_0 a0 8 3) (fun x5 =>
    if x5 ≤ x1 then
      some h_0
    else
      Option.bind (e_fA h_0 a0 8 1) (fun x12 =>
      Option.bind (e_fI h_0 a0 8 5) (fun x16 =>
      Option.bind (e_aI h_0 x12 0 x16) (fun x19 =>
      e_bE (
          if x19 = 32 then
            some (.ok ())
          else
            Option.bind (e_fA h_0 a0 8 1) (fun x26 =>
            Option.bind (e_fI h_0 a0 8 5) (fun x30 =>
            Option.bind (e_aI h_0 x26 0 x30) (fun x33 =>
            if x33 = 10 then
              some (.ok ())
            else
              some (.error h_0))))
        : Option (Except e_H Unit)) (fun _ =>
      Option.bind (e_fI h_0 a0 8 5) (fun x41 =>
      Option.bind (e_gI h_0 a0 8 5 (x41 + 1)) (fun h46 =>
      lp_X10_go_0 F a0 n h46))))))))
def lp_X10_go_221 (F : Nat) (a0 : Nat) (x205 : Int32) : Nat → Int32 → e_H → Option ((Int32 × e_H))
  | 0, _, _ => none
  | n + 1, x3_221, h_221 =>
    Option.bind (e_fI h_221 a0 8 5) (fun x223 =>
    Option.bind (f_X10_tapeAt h_221 a0 x223) (fun x226 =>
    Option.bind (f_X10_isLetter x226) (fun x229 =>
    e_bE (
        if x229 = 0 then
          Option.bind (e_fI h_221 a0 8 5) (fun x237 =>
          Option.bind (f_X10_tapeAt h_221 a0 x237) (fun x240 =>
          Option.bind (f_X10_isDigit x240) (fun x243 =>
          if x243 = 0 then
            some (.error (x3_221, h_221))
          else
            some (.ok ()))))
        else
          some (.ok ())
      : Option (Except (Int32 × e_H) Unit)) (fun _ =>
    Option.bind (e_fA h_221 a0 8 1) (fun x250 =>
    Option.bind (e_fI h_221 a0 8 5) (fun x254 =>
    Option.bind (e_aI h_221 x250 0 x254) (fun x257 =>
    Option.bind (
        e_bE (
            if x3_221 = 0 then
              some (.ok ())
            else
              Option.bind (f_X10_isLetter x257) (fun x266 =>
              if x266 = x205 then
                some (.error 1)
              else
                some (.ok ()))
          : Option (Except Int32 Unit)) (fun _ =>
        some 0)
      : Option (Int32)) (fun s278_9 =>
    Option.bind (e_fI h_221 a0 8 5) (fun x280 =>
    Option.bind (e_fI h_221 a0 8 6) (fun x284 =>
    Option.bind (
        if 7 ≤ (x280 - x284) then
          some h_221
        else
          Option.bind (e_fJ h_221 a0 8 13) (fun x298 =>
          Option.bind (e_gJ h_221 a0 8 13 (((27 * x298) + (x257.toInt64)) - 96)) (fun h310 =>
          some h310))
      : Option (e_H)) (fun h313_11 =>
    Option.bind (e_fI h313_11 a0 8 5) (fun x314 =>
    Option.bind (e_fI h313_11 a0 8 6) (fun x318 =>
    Option.bind (
        if 3 ≤ (x314 - x318) then
          some h313_11
        else
          Option.bind (e_fI h313_11 a0 8 8) (fun x330 =>
          Option.bind (e_gI h313_11 a0 8 8 (((10 * x330) + x257) - 48)) (fun h340 =>
          some h340))
      : Option (e_H)) (fun h343_12 =>
    Option.bind (e_fI h343_12 a0 8 5) (fun x345 =>
    Option.bind (e_gI h343_12 a0 8 5 (x345 + 1)) (fun h350 =>
    lp_X10_go_221 F a0 x205 n s278_9 h350))))))))))))))))
def f_X10_go (F : Nat) (h : e_H) (a0 : Nat) : Option e_H :=
  Option.bind (
      lp_X10_go_0 F a0 F h
    : Option (e_H)) (fun h52_1 =>
  Option.bind (e_fI h52_1 a0 8 5) (fun x54 =>
  Option.bind (e_gI h52_1 a0 8 6 x54) (fun h57 =>
  Option.bind (e_fI h57 a0 8 3) (fun x61 =>
  Option.bind (e_fI h57 a0 8 4) (fun x65 =>
  e_bE (
      if x61 ≤ x65 then
        some (.ok h57)
      else
        Option.bind (e_fI h57 a0 8 6) (fun x72 =>
        Option.bind (e_fI h57 a0 8 4) (fun x76 =>
        if x72 < x76 then
          some (.ok h57)
        else
          Option.bind (e_fI h57 a0 8 4) (fun x84 =>
          Option.bind (e_gI h57 a0 8 6 x84) (fun h87 =>
          Option.bind (e_gI h87 a0 8 7 1) (fun h92 =>
          some (.error h92))))))
    : Option (Except e_H e_H)) (fun h96_3 =>
  Option.bind (e_fI h96_3 a0 8 5) (fun x97 =>
  Option.bind (e_fI h96_3 a0 8 3) (fun x101 =>
  if x97 < x101 then
    Option.bind (e_fA h96_3 a0 8 1) (fun x114 =>
    Option.bind (e_fI h96_3 a0 8 5) (fun x118 =>
    Option.bind (e_aI h96_3 x114 0 x118) (fun x121 =>
    Option.bind (f_X10_isLetter x121) (fun x124 =>
    e_bE (
        if x124 = 0 then
          Option.bind (f_X10_isDigit x121) (fun x131 =>
          if x131 = 0 then
            Option.bind (
                e_bE (
                    if x121 = 59 then
                      some (.ok ())
                    else
                      if x121 = 45 then
                        some (.ok ())
                      else
                        if x121 = 60 then
                          some (.ok ())
                        else
                          if x121 = 61 then
                            some (.ok ())
                          else
                            if x121 = 62 then
                              some (.ok ())
                            else
                              if x121 = 40 then
                                some (.ok ())
                              else
                                if x121 = 41 then
                                  some (.ok ())
                                else
                                  some (.error 1)
                  : Option (Except Int32 Unit)) (fun _ =>
                some 4)
              : Option (Int32)) (fun s185_5 =>
            Option.bind (e_gI h96_3 a0 8 7 s185_5) (fun h185 =>
            Option.bind (e_gI h185 a0 8 9 x121) (fun h190 =>
            Option.bind (e_fI h190 a0 8 5) (fun x195 =>
            Option.bind (e_gI h190 a0 8 5 (x195 + 1)) (fun h200 =>
            some (.error h200))))))
          else
            some (.ok h96_3))
        else
          some (.ok h96_3)
      : Option (Except e_H e_H)) (fun h204_4 =>
    Option.bind (f_X10_isLetter x121) (fun x205 =>
    Option.bind (e_gJ h204_4 a0 8 13 0) (fun h213 =>
    Option.bind (e_gI h213 a0 8 8 0) (fun h218 =>
    Option.bind (
        lp_X10_go_221 F a0 x205 F 1 h218
      : Option ((Int32 × e_H))) (e_u2 (fun x3_356_7 h356_7 =>
    Option.bind (
        e_bE (
            if x3_356_7 = 0 then
              some (.ok ())
            else
              Option.bind (e_fI h356_7 a0 8 5) (fun x362 =>
              Option.bind (e_fI h356_7 a0 8 6) (fun x366 =>
              Option.bind (
                  if x205 = 0 then
                    some 3
                  else
                    some 7
                : Option (Int32)) (fun s380_15 =>
              if (x362 - x366) ≤ s380_15 then
                if x205 = 0 then
                  some (.error 3)
                else
                  some (.error 2)
              else
                some (.ok ()))))
          : Option (Except Int32 Unit)) (fun _ =>
        some 1)
      : Option (Int32)) (fun s396_13 =>
    Option.bind (e_gI h356_7 a0 8 7 s396_13) (fun h396 =>
    some h396))))))))))))
  else
    Option.bind (e_gI h96_3 a0 8 7 0) (fun h109 =>
    some h109)))))))))
set_option maxHeartbeats 4000000 in
set_option maxRecDepth 100000 in
theorem ct_X10_go {l : Launch} {D : e_D} {B : Heap} {F : Nat} {d : Nat} {h : e_H} {a0 : Nat} {h1 : e_H} (hd : 2 ≤ d) (e : f_X10_go F h a0 = some h1) : e_Run l D B d mX10_go [.ref a0] h (.ok none, h1) := by
  refine e_start [some (.ref a0), none, none, none, none] (by decide) rfl rfl rfl (Nat.le_of_ble_eq_true rfl) (fun K hl0 hD0 hB0 hM hd0 hr => ?_)
  subst hl0 hD0 hB0 hd0
  have ho : (k_M K).1.cls = "PegBandsModel" := by rw [hM]; rfl
  have hT : (k_M K).2.2.2.1 = none := by rw [hM]
  refine (show Sx K cX10_go 0 [some (.ref a0), none, none, none, none] [] h (f_X10_go F h a0) (fun w => w = h1) from ?_) _ e rfl
  clear e
  unfold f_X10_go
  refine Sx.regK1 (pc2 := 52) (L2 := fun (h52_1 : e_H) => [some (.ref a0), none, none, none, none]) (st2 := fun (h52_1 : e_H) => []) (h2 := fun (h52_1 : e_H) => h52_1) ?_ (fun Q1 hK1 => ?_)
  · intro h52_1
    show Sx K cX10_go 52 [some (.ref a0), none, none, none, none] [] h52_1 _ _
    refine S_aload_n (dc_X10_go 26 rfl) rfl ?_
    refine S_aload_n (dc_X10_go 27 rfl) rfl ?_
    refine S_getI (dc_X10_go 28 rfl) ho fl_X10_111_8_5 (fun _ _ => rfl) (fun x54 e54 => ?_)
    refine S_putI (dc_X10_go 29 rfl) ho fl_X10_114_8_6 (fun _ _ => rfl) (Or.inl rfl) rfl rfl (fun h57 e57 => ?_)
    refine S_aload_n (dc_X10_go 30 rfl) rfl ?_
    refine S_getI (dc_X10_go 31 rfl) ho fl_X10_109_8_3 (fun _ _ => rfl) (fun x61 e61 => ?_)
    refine S_aload_n (dc_X10_go 32 rfl) rfl ?_
    refine S_getI (dc_X10_go 33 rfl) ho fl_X10_117_8_4 (fun _ _ => rfl) (fun x65 e65 => ?_)
    refine Sx.regKE1 (pc2 := 96) (L2 := fun (h96_3 : e_H) => [some (.ref a0), none, none, none, none]) (st2 := fun (h96_3 : e_H) => []) (h2 := fun (h96_3 : e_H) => h96_3) ?_ (fun Q3 hK3 hE3 => ?_)
    · intro h96_3
      show Sx K cX10_go 96 [some (.ref a0), none, none, none, none] [] h96_3 _ _
      refine S_aload_n (dc_X10_go 48 rfl) rfl ?_
      refine S_getI (dc_X10_go 49 rfl) ho fl_X10_111_8_5 (fun _ _ => rfl) (fun x97 e97 => ?_)
      refine S_aload_n (dc_X10_go 50 rfl) rfl ?_
      refine S_getI (dc_X10_go 51 rfl) ho fl_X10_109_8_3 (fun _ _ => rfl) (fun x101 e101 => ?_)
      refine S_icmp_lt 113 (dc_X10_go 52 rfl) rfl (fun c104 => ?_) (fun c104 => ?_)
      · refine S_aload_n (dc_X10_go 57 rfl) rfl ?_
        refine S_getA (dc_X10_go 58 rfl) ho fl_X10_7_8_1 (fun _ _ => rfl) (fun x114 e114 => ?_)
        refine S_aload_n (dc_X10_go 59 rfl) rfl ?_
        refine S_getI (dc_X10_go 60 rfl) ho fl_X10_111_8_5 (fun _ _ => rfl) (fun x118 e118 => ?_)
        refine S_iald (dc_X10_go 61 rfl) (fun x121 e121 => ?_)
        refine S_istore_n (L' := [some (.ref a0), some (.int x121), none, none, none]) (dc_X10_go 62 rfl) rfl ?_
        refine S_iload_n (dc_X10_go 63 rfl) rfl ?_
        refine S_roI (d := k_d K - 1) (e_callS (As := [.int x121]) (rest := []) ok_X10_isLetter rfl (Nat.le_of_ble_eq_true rfl) (dc_X10_go 64 rfl) ho q1658 q1659 rfl (Nat.le_of_ble_eq_true rfl)) (by omega) (fun _ e => ct_X10_isLetter (by omega) e) (fun x124 e124 => ?_)
        refine Sx.regKE1 (pc2 := 204) (L2 := fun (h204_4 : e_H) => [some (.ref a0), some (.int x121), none, none, none]) (st2 := fun (h204_4 : e_H) => []) (h2 := fun (h204_4 : e_H) => h204_4) ?_ (fun Q4 hK4 hE4 => ?_)
        · intro h204_4
          show Sx K cX10_go 204 [some (.ref a0), some (.int x121), none, none, none] [] h204_4 _ _
          refine S_iload_n (dc_X10_go 105 rfl) rfl ?_
          refine S_roI (d := k_d K - 1) (e_callS (As := [.int x121]) (rest := []) ok_X10_isLetter rfl (Nat.le_of_ble_eq_true rfl) (dc_X10_go 106 rfl) ho q1658 q1659 rfl (Nat.le_of_ble_eq_true rfl)) (by omega) (fun _ e => ct_X10_isLetter (by omega) e) (fun x205 e205 => ?_)
          refine S_istore_n (L' := [some (.ref a0), some (.int x121), some (.int x205), none, none]) (dc_X10_go 107 rfl) rfl ?_
          refine S_iconst_ 1 (dc_X10_go 108 rfl) rfl ?_
          refine S_istore_n (L' := [some (.ref a0), some (.int x121), some (.int x205), some (.int 1), none]) (dc_X10_go 109 rfl) rfl ?_
          refine S_aload_n (dc_X10_go 110 rfl) rfl ?_
          refine S_lconst_ 0 (dc_X10_go 111 rfl) rfl ?_
          refine S_putJ (dc_X10_go 112 rfl) ho fl_X10_133_8_13 (fun _ _ => rfl) (Or.inl rfl) rfl rfl (fun h213 e213 => ?_)
          refine S_aload_n (dc_X10_go 113 rfl) rfl ?_
          refine S_iconst_ 0 (dc_X10_go 114 rfl) rfl ?_
          refine S_putI (dc_X10_go 115 rfl) ho fl_X10_137_8_8 (fun _ _ => rfl) (Or.inl rfl) rfl rfl (fun h218 e218 => ?_)
          refine Sx.regK2 (pc2 := 356) (L2 := fun (x3_356_7 : Int32) (h356_7 : e_H) => [some (.ref a0), none, some (.int x205), some (.int x3_356_7), none]) (st2 := fun (x3_356_7 : Int32) (h356_7 : e_H) => []) (h2 := fun (x3_356_7 : Int32) (h356_7 : e_H) => h356_7) ?_ (fun Q7 hK7 => ?_)
          · intro x3_356_7 h356_7
            show Sx K cX10_go 356 [some (.ref a0), none, some (.int x205), some (.int x3_356_7), none] [] h356_7 _ _
            refine S_aload_n (dc_X10_go 186 rfl) rfl ?_
            refine S_iload_n (dc_X10_go 187 rfl) rfl ?_
            refine Sx.regK1 (pc2 := 396) (L2 := fun (s396_13 : Int32) => [none, none, none, none, none]) (st2 := fun (s396_13 : Int32) => [.int s396_13, .ref a0]) (h2 := fun (s396_13 : Int32) => h356_7) ?_ (fun Q13 hK13 => ?_)
            · intro s396_13
              show Sx K cX10_go 396 [none, none, none, none, none] [.int s396_13, .ref a0] h356_7 _ _
              refine S_putI (dc_X10_go 207 rfl) ho fl_X10_120_8_7 (fun _ _ => rfl) (Or.inl rfl) rfl rfl (fun h396 e396 => ?_)
              exact S_vret (dc_X10_go 208 rfl) hT (fun q => by cases q; exact hr)
            · have hK13 : ∀ (s396_13 : Int32), Sx K cX10_go 396 [none, none, none, none, none] [.int s396_13, .ref a0] h356_7 (some s396_13) Q13 := hK13
              refine Sx.regKE0 (pc2 := 383) (L2 := [none, none, none, none, none]) (st2 := [.ref a0]) (h2 := h356_7) ?_ (fun Q14 hK14 hE14 => ?_)
              · skip
                refine S_iconst_ 1 (dc_X10_go 200 rfl) rfl ?_
                refine S_goto 396 (dc_X10_go 201 rfl) rfl ?_
                exact hK13 1
              · have hK14 : Sx K cX10_go 383 [none, none, none, none, none] [.ref a0] h356_7 (some (.ok ())) Q14 := hK14
                refine S_if_eq 383 (dc_X10_go 188 rfl) rfl (fun c358 => ?_) (fun c358 => ?_)
                · refine Sx.cut [false, true, false, false, true] ?_
                  exact hK14
                · refine S_aload_n (dc_X10_go 189 rfl) rfl ?_
                  refine S_getI (dc_X10_go 190 rfl) ho fl_X10_111_8_5 (fun _ _ => rfl) (fun x362 e362 => ?_)
                  refine S_aload_n (dc_X10_go 191 rfl) rfl ?_
                  refine S_getI (dc_X10_go 192 rfl) ho fl_X10_114_8_6 (fun _ _ => rfl) (fun x366 e366 => ?_)
                  refine S_isub (dc_X10_go 193 rfl) ?_
                  refine S_iload_n (dc_X10_go 194 rfl) rfl ?_
                  refine Sx.regK1 (pc2 := 380) (L2 := fun (s380_15 : Int32) => [none, none, some (.int x205), none, none]) (st2 := fun (s380_15 : Int32) => [.int s380_15, .int (x362 - x366), .ref a0]) (h2 := fun (s380_15 : Int32) => h356_7) ?_ (fun Q15 hK15 => ?_)
                  · intro s380_15
                    show Sx K cX10_go 380 [none, none, some (.int x205), none, none] [.int s380_15, .int (x362 - x366), .ref a0] h356_7 _ _
                    refine S_icmp_le 387 (dc_X10_go 199 rfl) rfl (fun c380 => ?_) (fun c380 => ?_)
                    · refine S_iload_n (dc_X10_go 202 rfl) rfl ?_
                      refine S_if_eq 395 (dc_X10_go 203 rfl) rfl (fun c388 => ?_) (fun c388 => ?_)
                      · refine S_iconst_ 3 (dc_X10_go 206 rfl) rfl ?_
                        refine Sx.cut [true, true, false, true, true] ?_
                        refine Sx.err hE14 ?_
                        exact hK13 3
                      · refine S_iconst_ 2 (dc_X10_go 204 rfl) rfl ?_
                        refine S_goto 396 (dc_X10_go 205 rfl) rfl ?_
                        refine Sx.cut [true, true, false, true, true] ?_
                        refine Sx.err hE14 ?_
                        exact hK13 2
                    · refine Sx.cut [true, true, false, true, true] ?_
                      exact hK14
                  · have hK15 : ∀ (s380_15 : Int32), Sx K cX10_go 380 [none, none, some (.int x205), none, none] [.int s380_15, .int (x362 - x366), .ref a0] h356_7 (some s380_15) Q15 := hK15
                    refine S_if_eq 379 (dc_X10_go 195 rfl) rfl (fun c371 => ?_) (fun c371 => ?_)
                    · refine S_iconst_ 3 (dc_X10_go 198 rfl) rfl ?_
                      refine Sx.cut [false, true, true, false, true] ?_
                      exact hK15 3
                    · refine S_bipush_ 7 (dc_X10_go 196 rfl) rfl ?_
                      refine S_goto 380 (dc_X10_go 197 rfl) rfl ?_
                      refine Sx.cut [false, true, true, false, true] ?_
                      exact hK15 7
          · have hK7 : ∀ (x3_356_7 : Int32) (h356_7 : e_H), Sx K cX10_go 356 [some (.ref a0), none, some (.int x205), some (.int x3_356_7), none] [] h356_7 (some (x3_356_7, h356_7)) Q7 := hK7
            have ih7 : ∀ (n : Nat) (x3_221 : Int32) (h_221 : e_H), Sx K cX10_go 221 [some (.ref a0), none, some (.int x205), some (.int x3_221), none] [] h_221 (lp_X10_go_221 F a0 x205 n x3_221 h_221) Q7 := by
              intro n
              induction n with
              | zero => intro x3_221 h_221; exact Sx.none
              | succ n ih7 =>
                intro x3_221 h_221
                rw [lp_X10_go_221.eq_2]
                refine S_aload_n (dc_X10_go 116 rfl) rfl ?_
                refine S_aload_n (dc_X10_go 117 rfl) rfl ?_
                refine S_getI (dc_X10_go 118 rfl) ho fl_X10_111_8_5 (fun _ _ => rfl) (fun x223 e223 => ?_)
                refine S_roI (d := k_d K - 1) (e_callV (b := a0) (As := [.int x223]) (rest := []) ok_X10_tapeAt rfl (Nat.le_of_ble_eq_true rfl) (dc_X10_go 119 rfl) ho q1664 q1666 (show e_cl[8]? = some (RX10, TX10, 51) from rfl) (e_sel.of qs39) (e_fI_of e223).1 rfl (Nat.le_of_ble_eq_true rfl)) (by omega) (fun _ e => ct_X10_tapeAt (by omega) e) (fun x226 e226 => ?_)
                refine S_roI (d := k_d K - 1) (e_callS (As := [.int x226]) (rest := []) ok_X10_isLetter rfl (Nat.le_of_ble_eq_true rfl) (dc_X10_go 120 rfl) ho q1658 q1659 rfl (Nat.le_of_ble_eq_true rfl)) (by omega) (fun _ e => ct_X10_isLetter (by omega) e) (fun x229 e229 => ?_)
                refine Sx.regKE0 (pc2 := 249) (L2 := [some (.ref a0), none, some (.int x205), some (.int x3_221), none]) (st2 := []) (h2 := h_221) ?_ (fun Q8 hK8 hE8 => ?_)
                · skip
                  refine S_aload_n (dc_X10_go 128 rfl) rfl ?_
                  refine S_getA (dc_X10_go 129 rfl) ho fl_X10_7_8_1 (fun _ _ => rfl) (fun x250 e250 => ?_)
                  refine S_aload_n (dc_X10_go 130 rfl) rfl ?_
                  refine S_getI (dc_X10_go 131 rfl) ho fl_X10_111_8_5 (fun _ _ => rfl) (fun x254 e254 => ?_)
                  refine S_iald (dc_X10_go 132 rfl) (fun x257 e257 => ?_)
                  refine S_istore (L' := [some (.ref a0), none, some (.int x205), some (.int x3_221), some (.int x257)]) (dc_X10_go 133 rfl) rfl ?_
                  refine S_iload_n (dc_X10_go 134 rfl) rfl ?_
                  refine Sx.regK1 (pc2 := 278) (L2 := fun (s278_9 : Int32) => [some (.ref a0), none, some (.int x205), none, some (.int x257)]) (st2 := fun (s278_9 : Int32) => [.int s278_9]) (h2 := fun (s278_9 : Int32) => h_221) ?_ (fun Q9 hK9 => ?_)
                  · intro s278_9
                    show Sx K cX10_go 278 [some (.ref a0), none, some (.int x205), none, some (.int x257)] [.int s278_9] h_221 _ _
                    refine S_istore_n (L' := [some (.ref a0), none, some (.int x205), some (.int s278_9), some (.int x257)]) (dc_X10_go 143 rfl) rfl ?_
                    refine S_aload_n (dc_X10_go 144 rfl) rfl ?_
                    refine S_getI (dc_X10_go 145 rfl) ho fl_X10_111_8_5 (fun _ _ => rfl) (fun x280 e280 => ?_)
                    refine S_aload_n (dc_X10_go 146 rfl) rfl ?_
                    refine S_getI (dc_X10_go 147 rfl) ho fl_X10_114_8_6 (fun _ _ => rfl) (fun x284 e284 => ?_)
                    refine S_isub (dc_X10_go 148 rfl) ?_
                    refine S_bipush_ 7 (dc_X10_go 149 rfl) rfl ?_
                    refine Sx.regK1 (pc2 := 313) (L2 := fun (h313_11 : e_H) => [some (.ref a0), none, some (.int x205), some (.int s278_9), some (.int x257)]) (st2 := fun (h313_11 : e_H) => []) (h2 := fun (h313_11 : e_H) => h313_11) ?_ (fun Q11 hK11 => ?_)
                    · intro h313_11
                      show Sx K cX10_go 313 [some (.ref a0), none, some (.int x205), some (.int s278_9), some (.int x257)] [] h313_11 _ _
                      refine S_aload_n (dc_X10_go 162 rfl) rfl ?_
                      refine S_getI (dc_X10_go 163 rfl) ho fl_X10_111_8_5 (fun _ _ => rfl) (fun x314 e314 => ?_)
                      refine S_aload_n (dc_X10_go 164 rfl) rfl ?_
                      refine S_getI (dc_X10_go 165 rfl) ho fl_X10_114_8_6 (fun _ _ => rfl) (fun x318 e318 => ?_)
                      refine S_isub (dc_X10_go 166 rfl) ?_
                      refine S_iconst_ 3 (dc_X10_go 167 rfl) rfl ?_
                      refine Sx.regK1 (pc2 := 343) (L2 := fun (h343_12 : e_H) => [some (.ref a0), none, some (.int x205), some (.int s278_9), none]) (st2 := fun (h343_12 : e_H) => []) (h2 := fun (h343_12 : e_H) => h343_12) ?_ (fun Q12 hK12 => ?_)
                      · intro h343_12
                        show Sx K cX10_go 343 [some (.ref a0), none, some (.int x205), some (.int s278_9), none] [] h343_12 _ _
                        refine S_aload_n (dc_X10_go 179 rfl) rfl ?_
                        refine S_dup (dc_X10_go 180 rfl) rfl ?_
                        refine S_getI (dc_X10_go 181 rfl) ho fl_X10_111_8_5 (fun _ _ => rfl) (fun x345 e345 => ?_)
                        refine S_iconst_ 1 (dc_X10_go 182 rfl) rfl ?_
                        refine S_iadd (dc_X10_go 183 rfl) ?_
                        refine S_putI (dc_X10_go 184 rfl) ho fl_X10_111_8_5 (fun _ _ => rfl) (Or.inl rfl) rfl rfl (fun h350 e350 => ?_)
                        refine S_goto 221 (dc_X10_go 185 rfl) rfl ?_
                        exact ih7 s278_9 h350
                      · have hK12 : ∀ (h343_12 : e_H), Sx K cX10_go 343 [some (.ref a0), none, some (.int x205), some (.int s278_9), none] [] h343_12 (some h343_12) Q12 := hK12
                        refine S_icmp_ge 343 (dc_X10_go 168 rfl) rfl (fun c323 => ?_) (fun c323 => ?_)
                        · refine Sx.cut [true, true, true, true, false] ?_
                          exact hK12 h313_11
                        · refine S_aload_n (dc_X10_go 169 rfl) rfl ?_
                          refine S_bipush_ 10 (dc_X10_go 170 rfl) rfl ?_
                          refine S_aload_n (dc_X10_go 171 rfl) rfl ?_
                          refine S_getI (dc_X10_go 172 rfl) ho fl_X10_137_8_8 (fun _ _ => rfl) (fun x330 e330 => ?_)
                          refine S_imul (dc_X10_go 173 rfl) ?_
                          refine S_iload (dc_X10_go 174 rfl) rfl ?_
                          refine S_iadd (dc_X10_go 175 rfl) ?_
                          refine S_bipush_ 48 (dc_X10_go 176 rfl) rfl ?_
                          refine S_isub (dc_X10_go 177 rfl) ?_
                          refine S_putI (dc_X10_go 178 rfl) ho fl_X10_137_8_8 (fun _ _ => rfl) (Or.inl rfl) rfl rfl (fun h340 e340 => ?_)
                          refine Sx.cut [true, true, true, true, false] ?_
                          exact hK12 h340
                    · have hK11 : ∀ (h313_11 : e_H), Sx K cX10_go 313 [some (.ref a0), none, some (.int x205), some (.int s278_9), some (.int x257)] [] h313_11 (some h313_11) Q11 := hK11
                      refine S_icmp_ge 313 (dc_X10_go 150 rfl) rfl (fun c290 => ?_) (fun c290 => ?_)
                      · exact hK11 h_221
                      · refine S_aload_n (dc_X10_go 151 rfl) rfl ?_
                        refine S_ldc2 27 (dc_X10_go 152 rfl) ho q1668 ?_
                        refine S_aload_n (dc_X10_go 153 rfl) rfl ?_
                        refine S_getJ (dc_X10_go 154 rfl) ho fl_X10_133_8_13 (fun _ _ => rfl) (fun x298 e298 => ?_)
                        refine S_lmul (dc_X10_go 155 rfl) ?_
                        refine S_iload (dc_X10_go 156 rfl) rfl ?_
                        refine S_i2l (dc_X10_go 157 rfl) ?_
                        refine S_ladd (dc_X10_go 158 rfl) ?_
                        refine S_ldc2 96 (dc_X10_go 159 rfl) ho q1669 ?_
                        refine S_lsub (dc_X10_go 160 rfl) ?_
                        refine S_putJ (dc_X10_go 161 rfl) ho fl_X10_133_8_13 (fun _ _ => rfl) (Or.inl rfl) rfl rfl (fun h310 e310 => ?_)
                        exact hK11 h310
                  · have hK9 : ∀ (s278_9 : Int32), Sx K cX10_go 278 [some (.ref a0), none, some (.int x205), none, some (.int x257)] [.int s278_9] h_221 (some s278_9) Q9 := hK9
                    refine Sx.regKE0 (pc2 := 277) (L2 := [some (.ref a0), none, some (.int x205), none, some (.int x257)]) (st2 := []) (h2 := h_221) ?_ (fun Q10 hK10 hE10 => ?_)
                    · skip
                      refine S_iconst_ 0 (dc_X10_go 142 rfl) rfl ?_
                      exact hK9 0
                    · have hK10 : Sx K cX10_go 277 [some (.ref a0), none, some (.int x205), none, some (.int x257)] [] h_221 (some (.ok ())) Q10 := hK10
                      refine S_if_eq 277 (dc_X10_go 135 rfl) rfl (fun c261 => ?_) (fun c261 => ?_)
                      · refine Sx.cut [true, true, true, false, true] ?_
                        exact hK10
                      · refine S_iload (dc_X10_go 136 rfl) rfl ?_
                        refine S_roI (d := k_d K - 1) (e_callS (As := [.int x257]) (rest := []) ok_X10_isLetter rfl (Nat.le_of_ble_eq_true rfl) (dc_X10_go 137 rfl) ho q1658 q1659 rfl (Nat.le_of_ble_eq_true rfl)) (by omega) (fun _ e => ct_X10_isLetter (by omega) e) (fun x266 e266 => ?_)
                        refine S_iload_n (dc_X10_go 138 rfl) rfl ?_
                        refine S_icmp_ne 277 (dc_X10_go 139 rfl) rfl (fun c270 => ?_) (fun c270 => ?_)
                        · refine Sx.cut [true, true, true, false, true] ?_
                          exact hK10
                        · refine S_iconst_ 1 (dc_X10_go 140 rfl) rfl ?_
                          refine S_goto 278 (dc_X10_go 141 rfl) rfl ?_
                          refine Sx.cut [true, true, true, false, true] ?_
                          refine Sx.err hE10 ?_
                          exact hK9 1
                · have hK8 : Sx K cX10_go 249 [some (.ref a0), none, some (.int x205), some (.int x3_221), none] [] h_221 (some (.ok ())) Q8 := hK8
                  refine S_if_ne 249 (dc_X10_go 121 rfl) rfl (fun c232 => ?_) (fun c232 => ?_)
                  · exact hK8
                  · refine S_aload_n (dc_X10_go 122 rfl) rfl ?_
                    refine S_aload_n (dc_X10_go 123 rfl) rfl ?_
                    refine S_getI (dc_X10_go 124 rfl) ho fl_X10_111_8_5 (fun _ _ => rfl) (fun x237 e237 => ?_)
                    refine S_roI (d := k_d K - 1) (e_callV (b := a0) (As := [.int x237]) (rest := []) ok_X10_tapeAt rfl (Nat.le_of_ble_eq_true rfl) (dc_X10_go 125 rfl) ho q1664 q1666 (show e_cl[8]? = some (RX10, TX10, 51) from rfl) (e_sel.of qs39) (e_fI_of e223).1 rfl (Nat.le_of_ble_eq_true rfl)) (by omega) (fun _ e => ct_X10_tapeAt (by omega) e) (fun x240 e240 => ?_)
                    refine S_roI (d := k_d K - 1) (e_callS (As := [.int x240]) (rest := []) ok_X10_isDigit rfl (Nat.le_of_ble_eq_true rfl) (dc_X10_go 126 rfl) ho q1661 q1662 rfl (Nat.le_of_ble_eq_true rfl)) (by omega) (fun _ e => ct_X10_isDigit (by omega) e) (fun x243 e243 => ?_)
                    refine S_if_eq 356 (dc_X10_go 127 rfl) rfl (fun c246 => ?_) (fun c246 => ?_)
                    · refine Sx.err hE8 ?_
                      exact hK7 x3_221 h_221
                    · exact hK8
            refine Sx.cut [true, false, true, true, true] ?_
            exact ih7 F 1 h218
        · have hK4 : ∀ (h204_4 : e_H), Sx K cX10_go 204 [some (.ref a0), some (.int x121), none, none, none] [] h204_4 (some (.ok h204_4)) Q4 := hK4
          refine S_if_ne 204 (dc_X10_go 65 rfl) rfl (fun c127 => ?_) (fun c127 => ?_)
          · exact hK4 h96_3
          · refine S_iload_n (dc_X10_go 66 rfl) rfl ?_
            refine S_roI (d := k_d K - 1) (e_callS (As := [.int x121]) (rest := []) ok_X10_isDigit rfl (Nat.le_of_ble_eq_true rfl) (dc_X10_go 67 rfl) ho q1661 q1662 rfl (Nat.le_of_ble_eq_true rfl)) (by omega) (fun _ e => ct_X10_isDigit (by omega) e) (fun x131 e131 => ?_)
            refine S_if_ne 204 (dc_X10_go 68 rfl) rfl (fun c134 => ?_) (fun c134 => ?_)
            · exact hK4 h96_3
            · refine S_aload_n (dc_X10_go 69 rfl) rfl ?_
              refine S_iload_n (dc_X10_go 70 rfl) rfl ?_
              refine S_bipush_ 59 (dc_X10_go 71 rfl) rfl ?_
              refine Sx.regK1 (pc2 := 185) (L2 := fun (s185_5 : Int32) => [some (.ref a0), some (.int x121), none, none, none]) (st2 := fun (s185_5 : Int32) => [.int s185_5, .ref a0]) (h2 := fun (s185_5 : Int32) => h96_3) ?_ (fun Q5 hK5 => ?_)
              · intro s185_5
                show Sx K cX10_go 185 [some (.ref a0), some (.int x121), none, none, none] [.int s185_5, .ref a0] h96_3 _ _
                refine S_putI (dc_X10_go 94 rfl) ho fl_X10_120_8_7 (fun _ _ => rfl) (Or.inl rfl) rfl rfl (fun h185 e185 => ?_)
                refine S_aload_n (dc_X10_go 95 rfl) rfl ?_
                refine S_iload_n (dc_X10_go 96 rfl) rfl ?_
                refine S_putI (dc_X10_go 97 rfl) ho fl_X10_130_8_9 (fun _ _ => rfl) (Or.inl rfl) rfl rfl (fun h190 e190 => ?_)
                refine S_aload_n (dc_X10_go 98 rfl) rfl ?_
                refine S_dup (dc_X10_go 99 rfl) rfl ?_
                refine S_getI (dc_X10_go 100 rfl) ho fl_X10_111_8_5 (fun _ _ => rfl) (fun x195 e195 => ?_)
                refine S_iconst_ 1 (dc_X10_go 101 rfl) rfl ?_
                refine S_iadd (dc_X10_go 102 rfl) ?_
                refine S_putI (dc_X10_go 103 rfl) ho fl_X10_111_8_5 (fun _ _ => rfl) (Or.inl rfl) rfl rfl (fun h200 e200 => ?_)
                refine Sx.err hE4 ?_
                exact S_vret (dc_X10_go 104 rfl) hT (fun q => by cases q; exact hr)
              · have hK5 : ∀ (s185_5 : Int32), Sx K cX10_go 185 [some (.ref a0), some (.int x121), none, none, none] [.int s185_5, .ref a0] h96_3 (some s185_5) Q5 := hK5
                refine Sx.regKE0 (pc2 := 180) (L2 := [some (.ref a0), some (.int x121), none, none, none]) (st2 := [.ref a0]) (h2 := h96_3) ?_ (fun Q6 hK6 hE6 => ?_)
                · skip
                  refine S_iconst_ 4 (dc_X10_go 91 rfl) rfl ?_
                  refine S_goto 185 (dc_X10_go 92 rfl) rfl ?_
                  exact hK5 4
                · have hK6 : Sx K cX10_go 180 [some (.ref a0), some (.int x121), none, none, none] [.ref a0] h96_3 (some (.ok ())) Q6 := hK6
                  refine S_icmp_eq 180 (dc_X10_go 72 rfl) rfl (fun c141 => ?_) (fun c141 => ?_)
                  · exact hK6
                  · refine S_iload_n (dc_X10_go 73 rfl) rfl ?_
                    refine S_bipush_ 45 (dc_X10_go 74 rfl) rfl ?_
                    refine S_icmp_eq 180 (dc_X10_go 75 rfl) rfl (fun c147 => ?_) (fun c147 => ?_)
                    · exact hK6
                    · refine S_iload_n (dc_X10_go 76 rfl) rfl ?_
                      refine S_bipush_ 60 (dc_X10_go 77 rfl) rfl ?_
                      refine S_icmp_eq 180 (dc_X10_go 78 rfl) rfl (fun c153 => ?_) (fun c153 => ?_)
                      · exact hK6
                      · refine S_iload_n (dc_X10_go 79 rfl) rfl ?_
                        refine S_bipush_ 61 (dc_X10_go 80 rfl) rfl ?_
                        refine S_icmp_eq 180 (dc_X10_go 81 rfl) rfl (fun c159 => ?_) (fun c159 => ?_)
                        · exact hK6
                        · refine S_iload_n (dc_X10_go 82 rfl) rfl ?_
                          refine S_bipush_ 62 (dc_X10_go 83 rfl) rfl ?_
                          refine S_icmp_eq 180 (dc_X10_go 84 rfl) rfl (fun c165 => ?_) (fun c165 => ?_)
                          · exact hK6
                          · refine S_iload_n (dc_X10_go 85 rfl) rfl ?_
                            refine S_bipush_ 40 (dc_X10_go 86 rfl) rfl ?_
                            refine S_icmp_eq 180 (dc_X10_go 87 rfl) rfl (fun c171 => ?_) (fun c171 => ?_)
                            · exact hK6
                            · refine S_iload_n (dc_X10_go 88 rfl) rfl ?_
                              refine S_bipush_ 41 (dc_X10_go 89 rfl) rfl ?_
                              refine S_icmp_ne 184 (dc_X10_go 90 rfl) rfl (fun c177 => ?_) (fun c177 => ?_)
                              · refine S_iconst_ 1 (dc_X10_go 93 rfl) rfl ?_
                                refine Sx.err hE6 ?_
                                exact hK5 1
                              · exact hK6
      · refine S_aload_n (dc_X10_go 53 rfl) rfl ?_
        refine S_iconst_ 0 (dc_X10_go 54 rfl) rfl ?_
        refine S_putI (dc_X10_go 55 rfl) ho fl_X10_120_8_7 (fun _ _ => rfl) (Or.inl rfl) rfl rfl (fun h109 e109 => ?_)
        exact S_vret (dc_X10_go 56 rfl) hT (fun q => by cases q; exact hr)
    · have hK3 : ∀ (h96_3 : e_H), Sx K cX10_go 96 [some (.ref a0), none, none, none, none] [] h96_3 (some (.ok h96_3)) Q3 := hK3
      refine S_icmp_le 96 (dc_X10_go 34 rfl) rfl (fun c68 => ?_) (fun c68 => ?_)
      · exact hK3 h57
      · refine S_aload_n (dc_X10_go 35 rfl) rfl ?_
        refine S_getI (dc_X10_go 36 rfl) ho fl_X10_114_8_6 (fun _ _ => rfl) (fun x72 e72 => ?_)
        refine S_aload_n (dc_X10_go 37 rfl) rfl ?_
        refine S_getI (dc_X10_go 38 rfl) ho fl_X10_117_8_4 (fun _ _ => rfl) (fun x76 e76 => ?_)
        refine S_icmp_lt 96 (dc_X10_go 39 rfl) rfl (fun c79 => ?_) (fun c79 => ?_)
        · exact hK3 h57
        · refine S_aload_n (dc_X10_go 40 rfl) rfl ?_
          refine S_aload_n (dc_X10_go 41 rfl) rfl ?_
          refine S_getI (dc_X10_go 42 rfl) ho fl_X10_117_8_4 (fun _ _ => rfl) (fun x84 e84 => ?_)
          refine S_putI (dc_X10_go 43 rfl) ho fl_X10_114_8_6 (fun _ _ => rfl) (Or.inl rfl) rfl rfl (fun h87 e87 => ?_)
          refine S_aload_n (dc_X10_go 44 rfl) rfl ?_
          refine S_iconst_ 1 (dc_X10_go 45 rfl) rfl ?_
          refine S_putI (dc_X10_go 46 rfl) ho fl_X10_120_8_7 (fun _ _ => rfl) (Or.inl rfl) rfl rfl (fun h92 e92 => ?_)
          refine Sx.err hE3 ?_
          exact S_vret (dc_X10_go 47 rfl) hT (fun q => by cases q; exact hr)
  · have hK1 : ∀ (h52_1 : e_H), Sx K cX10_go 52 [some (.ref a0), none, none, none, none] [] h52_1 (some h52_1) Q1 := hK1
    have ih1 : ∀ (n : Nat) (h_0 : e_H), Sx K cX10_go 0 [some (.ref a0), none, none, none, none] [] h_0 (lp_X10_go_0 F a0 n h_0) Q1 := by
      intro n
      induction n with
      | zero => intro h_0; exact Sx.none
      | succ n ih1 =>
        intro h_0
        rw [lp_X10_go_0.eq_2]
        refine S_aload_n (dc_X10_go 0 rfl) rfl ?_
        refine S_getI (dc_X10_go 1 rfl) ho fl_X10_111_8_5 (fun _ _ => rfl) (fun x1 e1 => ?_)
        refine S_aload_n (dc_X10_go 2 rfl) rfl ?_
        refine S_getI (dc_X10_go 3 rfl) ho fl_X10_109_8_3 (fun _ _ => rfl) (fun x5 e5 => ?_)
        refine S_icmp_ge 52 (dc_X10_go 4 rfl) rfl (fun c8 => ?_) (fun c8 => ?_)
        · exact hK1 h_0
        · refine S_aload_n (dc_X10_go 5 rfl) rfl ?_
          refine S_getA (dc_X10_go 6 rfl) ho fl_X10_7_8_1 (fun _ _ => rfl) (fun x12 e12 => ?_)
          refine S_aload_n (dc_X10_go 7 rfl) rfl ?_
          refine S_getI (dc_X10_go 8 rfl) ho fl_X10_111_8_5 (fun _ _ => rfl) (fun x16 e16 => ?_)
          refine S_iald (dc_X10_go 9 rfl) (fun x19 e19 => ?_)
          refine S_bipush_ 32 (dc_X10_go 10 rfl) rfl ?_
          refine Sx.regKE0 (pc2 := 39) (L2 := [some (.ref a0), none, none, none, none]) (st2 := []) (h2 := h_0) ?_ (fun Q2 hK2 hE2 => ?_)
          · skip
            refine S_aload_n (dc_X10_go 19 rfl) rfl ?_
            refine S_dup (dc_X10_go 20 rfl) rfl ?_
            refine S_getI (dc_X10_go 21 rfl) ho fl_X10_111_8_5 (fun _ _ => rfl) (fun x41 e41 => ?_)
            refine S_iconst_ 1 (dc_X10_go 22 rfl) rfl ?_
            refine S_iadd (dc_X10_go 23 rfl) ?_
            refine S_putI (dc_X10_go 24 rfl) ho fl_X10_111_8_5 (fun _ _ => rfl) (Or.inl rfl) rfl rfl (fun h46 e46 => ?_)
            refine S_goto 0 (dc_X10_go 25 rfl) rfl ?_
            exact ih1 h46
          · have hK2 : Sx K cX10_go 39 [some (.ref a0), none, none, none, none] [] h_0 (some (.ok ())) Q2 := hK2
            refine S_icmp_eq 39 (dc_X10_go 11 rfl) rfl (fun c22 => ?_) (fun c22 => ?_)
            · exact hK2
            · refine S_aload_n (dc_X10_go 12 rfl) rfl ?_
              refine S_getA (dc_X10_go 13 rfl) ho fl_X10_7_8_1 (fun _ _ => rfl) (fun x26 e26 => ?_)
              refine S_aload_n (dc_X10_go 14 rfl) rfl ?_
              refine S_getI (dc_X10_go 15 rfl) ho fl_X10_111_8_5 (fun _ _ => rfl) (fun x30 e30 => ?_)
              refine S_iald (dc_X10_go 16 rfl) (fun x33 e33 => ?_)
              refine S_bipush_ 10 (dc_X10_go 17 rfl) rfl ?_
              refine S_icmp_ne 52 (dc_X10_go 18 rfl) rfl (fun c36 => ?_) (fun c36 => ?_)
              · refine Sx.err hE2 ?_
                exact hK1 h_0
              · exact hK2
    exact ih1 F h
abbrev cX10_begin : ByteArray := prog_18_method_27_code
def yX10_begin : MethodName := ⟨"PegBandsModel", "begin", "(I)V"⟩
def tb_X10_begin : List (Nat × Instr × Nat) := [(0, .aload_n 0, 1), (1, .iconst 0, 1), (2, .putfield 94, 3), (5, .aload_n 0, 1), (6, .aload_n 0, 1), (7, .invokevirtual 185, 3), (10, .putfield 109, 3), (13, .aload_n 0, 1), (14, .iload_n 1, 1), (15, .putfield 117, 3), (18, .aload_n 0, 1), (19, .iconst 0, 1), (20, .putfield 159, 3), (23, .aload_n 0, 1), (24, .iconst 0, 1), (25, .putfield 111, 3), (28, .aload_n 0, 1), (29, .invokevirtual 179, 3), (32, .return_, 1)]
theorem tk_X10_begin : ∀ q ∈ tb_X10_begin, decode cX10_begin q.1 = .ok q.2 := by decide +kernel
theorem dc_X10_begin (k : Nat) {pc n : Nat} {i : Instr} (h : tb_X10_begin[k]? = some (pc, i, n)) : decode cX10_begin pc = .ok (i, n) := tk_X10_begin (pc, i, n) (List.mem_of_getElem? h)
abbrev mX10_begin : e_M := (yX10_begin, cX10_begin, 2, none, [])
theorem ok_X10_begin : e_mok mX10_begin 1 := ⟨q1649, q119, by decide +kernel, fun sig h => by cases h; rfl⟩
theorem fl_X10_159_8_10 : e_FL "PegBandsModel" 159 8 10 := ⟨_, rfl, by decide, Or.inl q1481⟩
def f_X10_begin (F : Nat) (h : e_H) (a0 : Nat) (a1 : Int32) : Option e_H :=
  Option.bind (e_gI h a0 8 0 0) (fun h2 =>
  Option.bind (e_is h2 a0 8) (fun _ =>
  e_b2 (f_X10_take h2 a0) (fun x7 h7 =>
  Option.bind (e_gI h7 a0 8 3 x7) (fun h10 =>
  Option.bind (e_gI h10 a0 8 4 a1) (fun h15 =>
  Option.bind (e_gI h15 a0 8 10 0) (fun h20 =>
  Option.bind (e_gI h20 a0 8 5 0) (fun h25 =>
  Option.bind (e_is h25 a0 8) (fun _ =>
  Option.bind (f_X10_go F h25 a0) (fun h29 =>
  some h29)))))))))
set_option maxHeartbeats 4000000 in
set_option maxRecDepth 100000 in
theorem ct_X10_begin {l : Launch} {D : e_D} {B : Heap} {F : Nat} {d : Nat} {h : e_H} {a0 : Nat} {a1 : Int32} {h1 : e_H} (hd : 3 ≤ d) (e : f_X10_begin F h a0 a1 = some h1) : e_Run l D B d mX10_begin [.ref a0, .int a1] h (.ok none, h1) := by
  refine e_start [some (.ref a0), some (.int a1)] (by decide) rfl rfl rfl (Nat.le_of_ble_eq_true rfl) (fun K hl0 hD0 hB0 hM hd0 hr => ?_)
  subst hl0 hD0 hB0 hd0
  have ho : (k_M K).1.cls = "PegBandsModel" := by rw [hM]; rfl
  have hT : (k_M K).2.2.2.1 = none := by rw [hM]
  refine (show Sx K cX10_begin 0 [some (.ref a0), some (.int a1)] [] h (f_X10_begin F h a0 a1) (fun w => w = h1) from ?_) _ e rfl
  clear e
  unfold f_X10_begin
  refine S_aload_n (dc_X10_begin 0 rfl) rfl ?_
  refine S_iconst_ 0 (dc_X10_begin 1 rfl) rfl ?_
  refine S_putI (dc_X10_begin 2 rfl) ho fl_X10_94_8_0 (fun _ _ => rfl) (Or.inl rfl) rfl rfl (fun h2 e2 => ?_)
  refine S_aload_n (dc_X10_begin 3 rfl) rfl ?_
  refine S_aload_n (dc_X10_begin 4 rfl) rfl ?_
  refine Sx.ask (fun _ i7 => ?_)
  refine S_rwI (d := k_d K - 1) (e_callV (b := a0) (As := []) (rest := [.ref a0]) ok_X10_take rfl (Nat.le_of_ble_eq_true rfl) (dc_X10_begin 5 rfl) ho q1650 q1652 (show e_cl[8]? = some (RX10, TX10, 51) from rfl) (e_sel.of qs37) (e_is_of i7) rfl (Nat.le_of_ble_eq_true rfl)) (by omega) (fun _ _ e => ct_X10_take (by omega) e) (fun x7 h7 e7 => ?_)
  refine S_putI (dc_X10_begin 6 rfl) ho fl_X10_109_8_3 (fun _ _ => rfl) (Or.inl rfl) rfl rfl (fun h10 e10 => ?_)
  refine S_aload_n (dc_X10_begin 7 rfl) rfl ?_
  refine S_iload_n (dc_X10_begin 8 rfl) rfl ?_
  refine S_putI (dc_X10_begin 9 rfl) ho fl_X10_117_8_4 (fun _ _ => rfl) (Or.inl rfl) rfl rfl (fun h15 e15 => ?_)
  refine S_aload_n (dc_X10_begin 10 rfl) rfl ?_
  refine S_iconst_ 0 (dc_X10_begin 11 rfl) rfl ?_
  refine S_putI (dc_X10_begin 12 rfl) ho fl_X10_159_8_10 (fun _ _ => rfl) (Or.inl rfl) rfl rfl (fun h20 e20 => ?_)
  refine S_aload_n (dc_X10_begin 13 rfl) rfl ?_
  refine S_iconst_ 0 (dc_X10_begin 14 rfl) rfl ?_
  refine S_putI (dc_X10_begin 15 rfl) ho fl_X10_111_8_5 (fun _ _ => rfl) (Or.inl rfl) rfl rfl (fun h25 e25 => ?_)
  refine S_aload_n (dc_X10_begin 16 rfl) rfl ?_
  refine Sx.ask (fun _ i29 => ?_)
  refine S_rwV (d := k_d K - 1) (e_callV (b := a0) (As := []) (rest := []) ok_X10_go rfl (Nat.le_of_ble_eq_true rfl) (dc_X10_begin 17 rfl) ho q1654 q1656 (show e_cl[8]? = some (RX10, TX10, 51) from rfl) (e_sel.of qs38) (e_is_of i29) rfl (Nat.le_of_ble_eq_true rfl)) (by omega) (fun _ e => ct_X10_go (by omega) e) (fun h29 e29 => ?_)
  exact S_vret (dc_X10_begin 18 rfl) hT (fun q => by cases q; exact hr)
abbrev cX10_spelt : ByteArray := prog_18_method_17_code
def yX10_spelt : MethodName := ⟨"PegBandsModel", "spelt", "(IIII)J"⟩
def tb_X10_spelt : List (Nat × Instr × Nat) := [(0, .ldc2_w 143, 3), (3, .iload_n 0, 1), (4, .i2l, 1), (5, .ldc2_w 145, 3), (8, .lsub, 1), (9, .lmul, 1), (10, .iload_n 1, 1), (11, .i2l, 1), (12, .ladd, 1), (13, .ldc2_w 145, 3), (16, .lsub, 1), (17, .lstore 4, 2), (19, .iload_n 2, 1), (20, .ifCond .le 18, 3), (23, .ldc2_w 143, 3), (26, .lload 4, 2), (28, .lmul, 1), (29, .iload_n 2, 1), (30, .i2l, 1), (31, .ladd, 1), (32, .ldc2_w 145, 3), (35, .lsub, 1), (36, .lstore 4, 2), (38, .iload_n 3, 1), (39, .ifCond .le 19, 3), (42, .ldc2_w 143, 3), (45, .lload 4, 2), (47, .lmul, 1), (48, .iload_n 3, 1), (49, .i2l, 1), (50, .ladd, 1), (51, .ldc2_w 145, 3), (54, .lsub, 1), (55, .goto 5, 3), (58, .lload 4, 2), (60, .lreturn, 1)]
theorem tk_X10_spelt : ∀ q ∈ tb_X10_spelt, decode cX10_spelt q.1 = .ok q.2 := by decide +kernel
theorem dc_X10_spelt (k : Nat) {pc n : Nat} {i : Instr} (h : tb_X10_spelt[k]? = some (pc, i, n)) : decode cX10_spelt pc = .ok (i, n) := tk_X10_spelt (pc, i, n) (List.mem_of_getElem? h)
abbrev mX10_spelt : e_M := (yX10_spelt, cX10_spelt, 6, some (.long), [])
theorem ok_X10_spelt : e_mok mX10_spelt 4 := ⟨q1683, q119, by decide +kernel, fun sig h => by cases h; rfl⟩
def f_X10_spelt (a0 : Int32) (a1 : Int32) (a2 : Int32) (a3 : Int32) : Option Int64 :=
  Option.bind (some (((27 * ((a0.toInt64) - 96)) + (a1.toInt64)) - 96)) (fun x17 =>
  Option.bind (
      if a2 ≤ 0 then
        some x17
      else
        Option.bind (some (((27 * x17) + (a2.toInt64)) - 96)) (fun x36 =>
        some x36)
    : Option (Int64)) (fun x4_38_1 =>
  if a3 ≤ 0 then
    some x4_38_1
  else
    some (((27 * x4_38_1) + (a3.toInt64)) - 96)))
set_option maxHeartbeats 4000000 in
set_option maxRecDepth 100000 in
theorem ct_X10_spelt {l : Launch} {D : e_D} {B : Heap} {d : Nat} {h : e_H} {a0 : Int32} {a1 : Int32} {a2 : Int32} {a3 : Int32} {v : Int64} (hd : 1 ≤ d) (e : f_X10_spelt a0 a1 a2 a3 = some v) : e_Run l D B d mX10_spelt [.int a0, .int a1, .int a2, .int a3] h (.ok (some (.long v)), h) := by
  refine e_start [some (.int a0), some (.int a1), some (.int a2), some (.int a3), none, none] (by decide) rfl rfl rfl (Nat.le_of_ble_eq_true rfl) (fun K hl0 hD0 hB0 hM hd0 hr => ?_)
  subst hl0 hD0 hB0 hd0
  have ho : (k_M K).1.cls = "PegBandsModel" := by rw [hM]; rfl
  have hT : (k_M K).2.2.2.1 = some (.long) := by rw [hM]
  refine (show Sx K cX10_spelt 0 [some (.int a0), some (.int a1), some (.int a2), some (.int a3), none, none] [] h (f_X10_spelt a0 a1 a2 a3) (fun w => w = v) from ?_) _ e rfl
  clear e
  unfold f_X10_spelt
  refine S_ldc2 27 (dc_X10_spelt 0 rfl) ho q1668 ?_
  refine S_iload_n (dc_X10_spelt 1 rfl) rfl ?_
  refine S_i2l (dc_X10_spelt 2 rfl) ?_
  refine S_ldc2 96 (dc_X10_spelt 3 rfl) ho q1669 ?_
  refine S_lsub (dc_X10_spelt 4 rfl) ?_
  refine S_lmul (dc_X10_spelt 5 rfl) ?_
  refine S_iload_n (dc_X10_spelt 6 rfl) rfl ?_
  refine S_i2l (dc_X10_spelt 7 rfl) ?_
  refine S_ladd (dc_X10_spelt 8 rfl) ?_
  refine S_ldc2 96 (dc_X10_spelt 9 rfl) ho q1669 ?_
  refine S_lsub (dc_X10_spelt 10 rfl) ?_
  refine Sx.nameJ (fun x17 n17 => ?_)
  refine S_lstore (L' := [some (.int a0), some (.int a1), some (.int a2), some (.int a3), some (.long x17), none]) (dc_X10_spelt 11 rfl) rfl ?_
  refine S_iload_n (dc_X10_spelt 12 rfl) rfl ?_
  refine Sx.regK1 (pc2 := 38) (L2 := fun (x4_38_1 : Int64) => [none, none, none, some (.int a3), some (.long x4_38_1), none]) (st2 := fun (x4_38_1 : Int64) => []) (h2 := fun (x4_38_1 : Int64) => h) ?_ (fun Q1 hK1 => ?_)
  · intro x4_38_1
    show Sx K cX10_spelt 38 [none, none, none, some (.int a3), some (.long x4_38_1), none] [] h _ _
    refine S_iload_n (dc_X10_spelt 23 rfl) rfl ?_
    refine S_if_le 58 (dc_X10_spelt 24 rfl) rfl (fun c39 => ?_) (fun c39 => ?_)
    · refine S_lload (dc_X10_spelt 34 rfl) rfl ?_
      exact S_lret (dc_X10_spelt 35 rfl) hT (fun q => by cases q; exact hr)
    · refine S_ldc2 27 (dc_X10_spelt 25 rfl) ho q1668 ?_
      refine S_lload (dc_X10_spelt 26 rfl) rfl ?_
      refine S_lmul (dc_X10_spelt 27 rfl) ?_
      refine S_iload_n (dc_X10_spelt 28 rfl) rfl ?_
      refine S_i2l (dc_X10_spelt 29 rfl) ?_
      refine S_ladd (dc_X10_spelt 30 rfl) ?_
      refine S_ldc2 96 (dc_X10_spelt 31 rfl) ho q1669 ?_
      refine S_lsub (dc_X10_spelt 32 rfl) ?_
      refine S_goto 60 (dc_X10_spelt 33 rfl) rfl ?_
      exact S_lret (dc_X10_spelt 35 rfl) hT (fun q => by cases q; exact hr)
  · have hK1 : ∀ (x4_38_1 : Int64), Sx K cX10_spelt 38 [none, none, none, some (.int a3), some (.long x4_38_1), none] [] h (some x4_38_1) Q1 := hK1
    refine S_if_le 38 (dc_X10_spelt 13 rfl) rfl (fun c20 => ?_) (fun c20 => ?_)
    · refine Sx.cut [false, false, false, true, true, true] ?_
      exact hK1 x17
    · refine S_ldc2 27 (dc_X10_spelt 14 rfl) ho q1668 ?_
      refine S_lload (dc_X10_spelt 15 rfl) rfl ?_
      refine S_lmul (dc_X10_spelt 16 rfl) ?_
      refine S_iload_n (dc_X10_spelt 17 rfl) rfl ?_
      refine S_i2l (dc_X10_spelt 18 rfl) ?_
      refine S_ladd (dc_X10_spelt 19 rfl) ?_
      refine S_ldc2 96 (dc_X10_spelt 20 rfl) ho q1669 ?_
      refine S_lsub (dc_X10_spelt 21 rfl) ?_
      refine Sx.nameJ (fun x36 n36 => ?_)
      refine S_lstore (L' := [some (.int a0), some (.int a1), some (.int a2), some (.int a3), some (.long x36), none]) (dc_X10_spelt 22 rfl) rfl ?_
      refine Sx.cut [false, false, false, true, true, true] ?_
      exact hK1 x36
