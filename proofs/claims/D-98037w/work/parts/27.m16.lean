/-! printed by gen/gen.py -/
set_option maxRecDepth 100000
abbrev cX1_move : ByteArray := prog_1_method_43_code
def yX1_move : MethodName := ⟨"PegBands", "move", "(III)I"⟩
def tb_X1_move : List (Nat × Instr × Nat) := [(0, .aload_n 0, 1), (1, .iload_n 1, 1), (2, .iload_n 2, 1), (3, .invokevirtual 267, 3), (6, .ifCond .eq 11, 3), (9, .aload_n 0, 1), (10, .iload_n 3, 1), (11, .invokevirtual 235, 3), (14, .ifCond .ne 5, 3), (17, .iconst (-1), 1), (18, .ireturn, 1), (19, .new 114, 3), (22, .dup, 1), (23, .aload_n 0, 1), (24, .getfield 63, 3), (27, .getfield 248, 3), (30, .iload_n 1, 1), (31, .aaload, 1), (32, .invokespecial 336, 3), (35, .astore 4, 2), (37, .aload 4, 2), (39, .getfield 273, 3), (42, .iload_n 2, 1), (43, .iload_n 3, 1), (44, .bipush 10, 2), (46, .irem, 1), (47, .iastore, 1), (48, .aload 4, 2), (50, .getfield 270, 3), (53, .iload_n 2, 1), (54, .iload_n 3, 1), (55, .bipush 10, 2), (57, .idiv, 1), (58, .iastore, 1), (59, .aload_n 0, 1), (60, .iload_n 1, 1), (61, .aload 4, 2), (63, .invokevirtual 339, 3), (66, .ireturn, 1)]
theorem tk_X1_move : ∀ q ∈ tb_X1_move, decode cX1_move q.1 = .ok q.2 := by decide +kernel
theorem dc_X1_move (k : Nat) {pc n : Nat} {i : Instr} (h : tb_X1_move[k]? = some (pc, i, n)) : decode cX1_move pc = .ok (i, n) := tk_X1_move (pc, i, n) (List.mem_of_getElem? h)
abbrev mX1_move : e_M := (yX1_move, cX1_move, 5, some (.int), [])
theorem ok_X1_move : e_mok mX1_move 3 := ⟨q958, q108, by decide +kernel, fun sig h => by cases h; rfl⟩
def f_X1_move (F : Nat) (h : e_H) (a0 : Nat) (a1 : Int32) (a2 : Int32) (a3 : Int32) : Option (Int32 × e_H) :=
  Option.bind (e_is h a0 0) (fun _ =>
  Option.bind (f_X1_isCorner h a0 a1 a2) (fun x3 =>
  if x3 = 0 then
    some ((-1), h)
  else
    Option.bind (f_X1_isPlace h a0 a3) (fun x11 =>
    if x11 = 0 then
      some ((-1), h)
    else
      e_mkb h (.inl 6) 4 (fun x19 h19 =>
      Option.bind (e_fA h19 a0 0 6) (fun x24 =>
      Option.bind (e_fA h19 x24 2 0) (fun x27 =>
      Option.bind (e_aA h19 x27 4 a1) (fun x31 =>
      Option.bind (f_X8_init_2 h19 x19 x31) (fun h32 =>
      Option.bind (e_fA h32 x19 6 0) (fun x39 =>
      Option.bind (e_wI h32 x39 0 a2 (a3 - a3 / 10 * 10)) (fun h47 =>
      Option.bind (e_fA h47 x19 6 1) (fun x50 =>
      Option.bind (e_wI h47 x50 0 a2 (a3 / 10)) (fun h58 =>
      Option.bind (e_is h58 a0 0) (fun _ =>
      e_b2 (f_X1_changes F h58 a0 a1 x19) (fun x63 h63 =>
      some (x63, h63)))))))))))))))
set_option maxHeartbeats 4000000 in
set_option maxRecDepth 100000 in
theorem ct_X1_move {l : Launch} {D : e_D} {B : Heap} {F : Nat} {d : Nat} {h : e_H} {a0 : Nat} {a1 : Int32} {a2 : Int32} {a3 : Int32} {v : Int32} {h1 : e_H} (hd : 9 ≤ d) (e : f_X1_move F h a0 a1 a2 a3 = some (v, h1)) : e_Run l D B d mX1_move [.ref a0, .int a1, .int a2, .int a3] h (.ok (some (.int v)), h1) := by
  refine e_start [some (.ref a0), some (.int a1), some (.int a2), some (.int a3), none] (by decide) rfl rfl rfl (Nat.le_of_ble_eq_true rfl) (fun K hl0 hD0 hB0 hM hd0 hr => ?_)
  subst hl0 hD0 hB0 hd0
  have ho : (k_M K).1.cls = "PegBands" := by rw [hM]; rfl
  have hT : (k_M K).2.2.2.1 = some (.int) := by rw [hM]
  refine (show Sx K cX1_move 0 [some (.ref a0), some (.int a1), some (.int a2), some (.int a3), none] [] h (f_X1_move F h a0 a1 a2 a3) (fun w => w = (v, h1)) from ?_) _ e rfl
  clear e
  unfold f_X1_move
  refine S_aload_n (dc_X1_move 0 rfl) rfl ?_
  refine S_iload_n (dc_X1_move 1 rfl) rfl ?_
  refine S_iload_n (dc_X1_move 2 rfl) rfl ?_
  refine Sx.ask (fun _ i3 => ?_)
  refine S_roI (d := k_d K - 1) (e_callV (b := a0) (As := [.int a1, .int a2]) (rest := []) ok_X1_isCorner rfl (Nat.le_of_ble_eq_true rfl) (dc_X1_move 3 rfl) ho q855 q857 (show e_cl[0]? = some (RX1, TX1, 37) from rfl) (e_sel.of qs6) (e_is_of i3) rfl (Nat.le_of_ble_eq_true rfl)) (by omega) (fun _ e => ct_X1_isCorner (by omega) e) (fun x3 e3 => ?_)
  refine S_if_eq 17 (dc_X1_move 4 rfl) rfl (fun c6 => ?_) (fun c6 => ?_)
  · refine S_iconst_ (-1) (dc_X1_move 9 rfl) rfl ?_
    exact S_iret (dc_X1_move 10 rfl) hT rfl (e_rqI hr)
  · refine S_aload_n (dc_X1_move 5 rfl) rfl ?_
    refine S_iload_n (dc_X1_move 6 rfl) rfl ?_
    refine S_roI (d := k_d K - 1) (e_callV (b := a0) (As := [.int a3]) (rest := []) ok_X1_isPlace rfl (Nat.le_of_ble_eq_true rfl) (dc_X1_move 7 rfl) ho q846 q848 (show e_cl[0]? = some (RX1, TX1, 37) from rfl) (e_sel.of qs5) (e_is_of i3) rfl (Nat.le_of_ble_eq_true rfl)) (by omega) (fun _ e => ct_X1_isPlace (by omega) e) (fun x11 e11 => ?_)
    refine S_if_ne 19 (dc_X1_move 8 rfl) rfl (fun c14 => ?_) (fun c14 => ?_)
    · refine S_newB (dc_X1_move 11 rfl) ho (show e_cl[6]? = some (RX8, TX8, 4) from rfl) (by decide) q386 q387 q117 (fun x19 h19 u19 w19 => ?_)
      refine S_dup (dc_X1_move 12 rfl) rfl ?_
      refine S_aload_n (dc_X1_move 13 rfl) rfl ?_
      refine S_getA (dc_X1_move 14 rfl) ho fl_X1_63_0_6 (fun _ _ => rfl) (fun x24 e24 => ?_)
      refine S_getA (dc_X1_move 15 rfl) ho fl_X1_248_2_0 (fun _ _ => rfl) (fun x27 e27 => ?_)
      refine S_iload_n (dc_X1_move 16 rfl) rfl ?_
      refine S_aaldA4 (dc_X1_move 17 rfl) (fun x31 e31 => ?_)
      refine S_rwV (d := k_d K - 1) (e_callI (b := x19) (As := [.ref x31]) (rest := [.ref x19]) ok_X8_init_2 rfl rfl rfl (Nat.le_of_ble_eq_true rfl) (dc_X1_move 18 rfl) ho q959 q960 rfl (Nat.le_of_ble_eq_true rfl)) (by omega) (fun _ e => ct_X8_init_2 (by omega) e) (fun h32 e32 => ?_)
      refine S_astore (L' := [some (.ref a0), some (.int a1), some (.int a2), some (.int a3), some (.ref x19)]) (dc_X1_move 19 rfl) rfl ?_
      refine S_aload (dc_X1_move 20 rfl) rfl ?_
      refine S_getA (dc_X1_move 21 rfl) ho fl_X1_273_6_0 (fun _ _ => rfl) (fun x39 e39 => ?_)
      refine S_iload_n (dc_X1_move 22 rfl) rfl ?_
      refine S_iload_n (dc_X1_move 23 rfl) rfl ?_
      refine S_bipush_ 10 (dc_X1_move 24 rfl) rfl ?_
      refine S_irem (dc_X1_move 25 rfl) (by decide) ?_
      refine S_iast (dc_X1_move 26 rfl) (fun h47 e47 => ?_)
      refine S_aload (dc_X1_move 27 rfl) rfl ?_
      refine S_getA (dc_X1_move 28 rfl) ho fl_X1_270_6_1 (fun _ _ => rfl) (fun x50 e50 => ?_)
      refine S_iload_n (dc_X1_move 29 rfl) rfl ?_
      refine S_iload_n (dc_X1_move 30 rfl) rfl ?_
      refine S_bipush_ 10 (dc_X1_move 31 rfl) rfl ?_
      refine S_idiv (dc_X1_move 32 rfl) (by decide) ?_
      refine S_iast (dc_X1_move 33 rfl) (fun h58 e58 => ?_)
      refine S_aload_n (dc_X1_move 34 rfl) rfl ?_
      refine S_iload_n (dc_X1_move 35 rfl) rfl ?_
      refine S_aload (dc_X1_move 36 rfl) rfl ?_
      refine Sx.ask (fun _ i63 => ?_)
      refine S_rwI (d := k_d K - 1) (e_callV (b := a0) (As := [.int a1, .ref x19]) (rest := []) ok_X1_changes rfl (Nat.le_of_ble_eq_true rfl) (dc_X1_move 37 rfl) ho q967 q969 (show e_cl[0]? = some (RX1, TX1, 37) from rfl) (e_sel.of qs10) (e_is_of i63) rfl (Nat.le_of_ble_eq_true rfl)) (by omega) (fun _ _ e => ct_X1_changes (by omega) e) (fun x63 h63 e63 => ?_)
      exact S_iret (dc_X1_move 38 rfl) hT rfl (e_rqI hr)
    · refine S_iconst_ (-1) (dc_X1_move 9 rfl) rfl ?_
      exact S_iret (dc_X1_move 10 rfl) hT rfl (e_rqI hr)
abbrev cX1_slide : ByteArray := prog_1_method_44_code
def yX1_slide : MethodName := ⟨"PegBands", "slide", "(III)I"⟩
def tb_X1_slide : List (Nat × Instr × Nat) := [(0, .aload_n 0, 1), (1, .iload_n 1, 1), (2, .invokevirtual 241, 3), (5, .ifCond .ne 5, 3), (8, .iconst (-1), 1), (9, .ireturn, 1), (10, .new 114, 3), (13, .dup, 1), (14, .aload_n 0, 1), (15, .getfield 63, 3), (18, .getfield 248, 3), (21, .iload_n 1, 1), (22, .aaload, 1), (23, .invokespecial 336, 3), (26, .astore 4, 2), (28, .iconst 0, 1), (29, .istore 5, 2), (31, .iload 5, 2), (33, .aload 4, 2), (35, .getfield 251, 3), (38, .if_icmp .ge 57, 3), (41, .iload_n 2, 1), (42, .bipush (-10), 2), (44, .bipush 10, 2), (46, .invokestatic 187, 3), (49, .ifCond .eq 14, 3), (52, .iload_n 3, 1), (53, .bipush (-10), 2), (55, .bipush 10, 2), (57, .invokestatic 187, 3), (60, .ifCond .ne 5, 3), (63, .iconst 1, 1), (64, .ireturn, 1), (65, .aload 4, 2), (67, .getfield 273, 3), (70, .iload 5, 2), (72, .dup2, 1), (73, .iaload, 1), (74, .iload_n 2, 1), (75, .iadd, 1), (76, .iastore, 1), (77, .aload 4, 2), (79, .getfield 270, 3), (82, .iload 5, 2), (84, .dup2, 1), (85, .iaload, 1), (86, .iload_n 3, 1), (87, .iadd, 1), (88, .iastore, 1), (89, .iinc 5 1, 3), (92, .goto (-61), 3), (95, .aload_n 0, 1), (96, .iload_n 1, 1), (97, .aload 4, 2), (99, .invokevirtual 339, 3), (102, .ireturn, 1)]
theorem tk_X1_slide : ∀ q ∈ tb_X1_slide, decode cX1_slide q.1 = .ok q.2 := by decide +kernel
theorem dc_X1_slide (k : Nat) {pc n : Nat} {i : Instr} (h : tb_X1_slide[k]? = some (pc, i, n)) : decode cX1_slide pc = .ok (i, n) := tk_X1_slide (pc, i, n) (List.mem_of_getElem? h)
abbrev mX1_slide : e_M := (yX1_slide, cX1_slide, 6, some (.int), [])
theorem ok_X1_slide : e_mok mX1_slide 3 := ⟨q979, q108, by decide +kernel, fun sig h => by cases h; rfl⟩
def lp_X1_slide_31 (F : Nat) (a2 : Int32) (a3 : Int32) (x10 : Nat) : Nat → Int32 → e_H → Option (Except (Int32 × e_H) e_H)
  | 0, _, _ => none
  | n + 1, x5_31, h_31 =>
    Option.bind (e_fI h_31 x10 6 2) (fun x35 =>
    if x35 ≤ x5_31 then
      some (.ok h_31)
    else
      Option.bind (f_X1_isIn a2 (-10) 10) (fun x46 =>
      if x46 = 0 then
        some (.error (1, h_31))
      else
        Option.bind (f_X1_isIn a3 (-10) 10) (fun x57 =>
        if x57 = 0 then
          some (.error (1, h_31))
        else
          Option.bind (e_fA h_31 x10 6 0) (fun x67 =>
          Option.bind (e_aI h_31 x67 0 x5_31) (fun x73 =>
          Option.bind (e_wI h_31 x67 0 x5_31 (x73 + a2)) (fun h76 =>
          Option.bind (e_fA h76 x10 6 1) (fun x79 =>
          Option.bind (e_aI h76 x79 0 x5_31) (fun x85 =>
          Option.bind (e_wI h76 x79 0 x5_31 (x85 + a3)) (fun h88 =>
          Option.bind (some (x5_31 + 1)) (fun x89 =>
          lp_X1_slide_31 F a2 a3 x10 n x89 h88))))))))))
def f_X1_slide (F : Nat) (h : e_H) (a0 : Nat) (a1 : Int32) (a2 : Int32) (a3 : Int32) : Option (Int32 × e_H) :=
  Option.bind (e_is h a0 0) (fun _ =>
  Option.bind (f_X1_isBand h a0 a1) (fun x2 =>
  if x2 = 0 then
    some ((-1), h)
  else
    e_mkb h (.inl 6) 4 (fun x10 h10 =>
    Option.bind (e_fA h10 a0 0 6) (fun x15 =>
    Option.bind (e_fA h10 x15 2 0) (fun x18 =>
    Option.bind (e_aA h10 x18 4 a1) (fun x22 =>
    Option.bind (f_X8_init_2 h10 x10 x22) (fun h23 =>
    e_bE (
        lp_X1_slide_31 F a2 a3 x10 F 0 h23
      : Option (Except (Int32 × e_H) e_H)) (fun h95_1 =>
    Option.bind (e_is h95_1 a0 0) (fun _ =>
    e_b2 (f_X1_changes F h95_1 a0 a1 x10) (fun x99 h99 =>
    some (x99, h99)))))))))))
set_option maxHeartbeats 4000000 in
set_option maxRecDepth 100000 in
theorem ct_X1_slide {l : Launch} {D : e_D} {B : Heap} {F : Nat} {d : Nat} {h : e_H} {a0 : Nat} {a1 : Int32} {a2 : Int32} {a3 : Int32} {v : Int32} {h1 : e_H} (hd : 9 ≤ d) (e : f_X1_slide F h a0 a1 a2 a3 = some (v, h1)) : e_Run l D B d mX1_slide [.ref a0, .int a1, .int a2, .int a3] h (.ok (some (.int v)), h1) := by
  refine e_start [some (.ref a0), some (.int a1), some (.int a2), some (.int a3), none, none] (by decide) rfl rfl rfl (Nat.le_of_ble_eq_true rfl) (fun K hl0 hD0 hB0 hM hd0 hr => ?_)
  subst hl0 hD0 hB0 hd0
  have ho : (k_M K).1.cls = "PegBands" := by rw [hM]; rfl
  have hT : (k_M K).2.2.2.1 = some (.int) := by rw [hM]
  refine (show Sx K cX1_slide 0 [some (.ref a0), some (.int a1), some (.int a2), some (.int a3), none, none] [] h (f_X1_slide F h a0 a1 a2 a3) (fun w => w = (v, h1)) from ?_) _ e rfl
  clear e
  unfold f_X1_slide
  refine S_aload_n (dc_X1_slide 0 rfl) rfl ?_
  refine S_iload_n (dc_X1_slide 1 rfl) rfl ?_
  refine Sx.ask (fun _ i2 => ?_)
  refine S_roI (d := k_d K - 1) (e_callV (b := a0) (As := [.int a1]) (rest := []) ok_X1_isBand rfl (Nat.le_of_ble_eq_true rfl) (dc_X1_slide 2 rfl) ho q859 q861 (show e_cl[0]? = some (RX1, TX1, 37) from rfl) (e_sel.of qs7) (e_is_of i2) rfl (Nat.le_of_ble_eq_true rfl)) (by omega) (fun _ e => ct_X1_isBand (by omega) e) (fun x2 e2 => ?_)
  refine S_if_ne 10 (dc_X1_slide 3 rfl) rfl (fun c5 => ?_) (fun c5 => ?_)
  · refine S_newB (dc_X1_slide 6 rfl) ho (show e_cl[6]? = some (RX8, TX8, 4) from rfl) (by decide) q386 q387 q117 (fun x10 h10 u10 w10 => ?_)
    refine S_dup (dc_X1_slide 7 rfl) rfl ?_
    refine S_aload_n (dc_X1_slide 8 rfl) rfl ?_
    refine S_getA (dc_X1_slide 9 rfl) ho fl_X1_63_0_6 (fun _ _ => rfl) (fun x15 e15 => ?_)
    refine S_getA (dc_X1_slide 10 rfl) ho fl_X1_248_2_0 (fun _ _ => rfl) (fun x18 e18 => ?_)
    refine S_iload_n (dc_X1_slide 11 rfl) rfl ?_
    refine S_aaldA4 (dc_X1_slide 12 rfl) (fun x22 e22 => ?_)
    refine S_rwV (d := k_d K - 1) (e_callI (b := x10) (As := [.ref x22]) (rest := [.ref x10]) ok_X8_init_2 rfl rfl rfl (Nat.le_of_ble_eq_true rfl) (dc_X1_slide 13 rfl) ho q959 q960 rfl (Nat.le_of_ble_eq_true rfl)) (by omega) (fun _ e => ct_X8_init_2 (by omega) e) (fun h23 e23 => ?_)
    refine S_astore (L' := [some (.ref a0), some (.int a1), some (.int a2), some (.int a3), some (.ref x10), none]) (dc_X1_slide 14 rfl) rfl ?_
    refine S_iconst_ 0 (dc_X1_slide 15 rfl) rfl ?_
    refine S_istore (L' := [some (.ref a0), some (.int a1), some (.int a2), some (.int a3), some (.ref x10), some (.int 0)]) (dc_X1_slide 16 rfl) rfl ?_
    refine Sx.regKE1 (pc2 := 95) (L2 := fun (h95_1 : e_H) => [some (.ref a0), some (.int a1), none, none, some (.ref x10), none]) (st2 := fun (h95_1 : e_H) => []) (h2 := fun (h95_1 : e_H) => h95_1) ?_ (fun Q1 hK1 hE1 => ?_)
    · intro h95_1
      show Sx K cX1_slide 95 [some (.ref a0), some (.int a1), none, none, some (.ref x10), none] [] h95_1 _ _
      refine S_aload_n (dc_X1_slide 51 rfl) rfl ?_
      refine S_iload_n (dc_X1_slide 52 rfl) rfl ?_
      refine S_aload (dc_X1_slide 53 rfl) rfl ?_
      refine Sx.ask (fun _ i99 => ?_)
      refine S_rwI (d := k_d K - 1) (e_callV (b := a0) (As := [.int a1, .ref x10]) (rest := []) ok_X1_changes rfl (Nat.le_of_ble_eq_true rfl) (dc_X1_slide 54 rfl) ho q967 q969 (show e_cl[0]? = some (RX1, TX1, 37) from rfl) (e_sel.of qs10) (e_is_of i99) rfl (Nat.le_of_ble_eq_true rfl)) (by omega) (fun _ _ e => ct_X1_changes (by omega) e) (fun x99 h99 e99 => ?_)
      exact S_iret (dc_X1_slide 55 rfl) hT rfl (e_rqI hr)
    · have hK1 : ∀ (h95_1 : e_H), Sx K cX1_slide 95 [some (.ref a0), some (.int a1), none, none, some (.ref x10), none] [] h95_1 (some (.ok h95_1)) Q1 := hK1
      have ih1 : ∀ (n : Nat) (x5_31 : Int32) (h_31 : e_H), Sx K cX1_slide 31 [some (.ref a0), some (.int a1), some (.int a2), some (.int a3), some (.ref x10), some (.int x5_31)] [] h_31 (lp_X1_slide_31 F a2 a3 x10 n x5_31 h_31) Q1 := by
        intro n
        induction n with
        | zero => intro x5_31 h_31; exact Sx.none
        | succ n ih1 =>
          intro x5_31 h_31
          rw [lp_X1_slide_31.eq_2]
          refine S_iload (dc_X1_slide 17 rfl) rfl ?_
          refine S_aload (dc_X1_slide 18 rfl) rfl ?_
          refine S_getI (dc_X1_slide 19 rfl) ho fl_X1_251_6_2 (fun _ _ => rfl) (fun x35 e35 => ?_)
          refine S_icmp_ge 95 (dc_X1_slide 20 rfl) rfl (fun c38 => ?_) (fun c38 => ?_)
          · refine Sx.cut [true, true, false, false, true, false] ?_
            exact hK1 h_31
          · refine S_iload_n (dc_X1_slide 21 rfl) rfl ?_
            refine S_bipush_ (-10) (dc_X1_slide 22 rfl) rfl ?_
            refine S_bipush_ 10 (dc_X1_slide 23 rfl) rfl ?_
            refine S_roI (d := k_d K - 1) (e_callS (As := [.int a2, .int (-10), .int 10]) (rest := []) ok_X1_isIn rfl (Nat.le_of_ble_eq_true rfl) (dc_X1_slide 24 rfl) ho q825 q616 rfl (Nat.le_of_ble_eq_true rfl)) (by omega) (fun _ e => ct_X1_isIn (by omega) e) (fun x46 e46 => ?_)
            refine S_if_eq 63 (dc_X1_slide 25 rfl) rfl (fun c49 => ?_) (fun c49 => ?_)
            · refine S_iconst_ 1 (dc_X1_slide 31 rfl) rfl ?_
              refine Sx.err hE1 ?_
              exact S_iret (dc_X1_slide 32 rfl) hT rfl (e_rqI hr)
            · refine S_iload_n (dc_X1_slide 26 rfl) rfl ?_
              refine S_bipush_ (-10) (dc_X1_slide 27 rfl) rfl ?_
              refine S_bipush_ 10 (dc_X1_slide 28 rfl) rfl ?_
              refine S_roI (d := k_d K - 1) (e_callS (As := [.int a3, .int (-10), .int 10]) (rest := []) ok_X1_isIn rfl (Nat.le_of_ble_eq_true rfl) (dc_X1_slide 29 rfl) ho q825 q616 rfl (Nat.le_of_ble_eq_true rfl)) (by omega) (fun _ e => ct_X1_isIn (by omega) e) (fun x57 e57 => ?_)
              refine S_if_ne 65 (dc_X1_slide 30 rfl) rfl (fun c60 => ?_) (fun c60 => ?_)
              · refine S_aload (dc_X1_slide 33 rfl) rfl ?_
                refine S_getA (dc_X1_slide 34 rfl) ho fl_X1_273_6_0 (fun _ _ => rfl) (fun x67 e67 => ?_)
                refine S_iload (dc_X1_slide 35 rfl) rfl ?_
                refine S_dup2 (dc_X1_slide 36 rfl) rfl rfl ?_
                refine S_iald (dc_X1_slide 37 rfl) (fun x73 e73 => ?_)
                refine S_iload_n (dc_X1_slide 38 rfl) rfl ?_
                refine S_iadd (dc_X1_slide 39 rfl) ?_
                refine S_iast (dc_X1_slide 40 rfl) (fun h76 e76 => ?_)
                refine S_aload (dc_X1_slide 41 rfl) rfl ?_
                refine S_getA (dc_X1_slide 42 rfl) ho fl_X1_270_6_1 (fun _ _ => rfl) (fun x79 e79 => ?_)
                refine S_iload (dc_X1_slide 43 rfl) rfl ?_
                refine S_dup2 (dc_X1_slide 44 rfl) rfl rfl ?_
                refine S_iald (dc_X1_slide 45 rfl) (fun x85 e85 => ?_)
                refine S_iload_n (dc_X1_slide 46 rfl) rfl ?_
                refine S_iadd (dc_X1_slide 47 rfl) ?_
                refine S_iast (dc_X1_slide 48 rfl) (fun h88 e88 => ?_)
                refine S_iincN 1 (L' := fun x89 => [some (.ref a0), some (.int a1), some (.int a2), some (.int a3), some (.ref x10), some (.int x89)]) (dc_X1_slide 49 rfl) rfl rfl (fun _ => rfl) (fun x89 n89 => ?_)
                refine S_goto 31 (dc_X1_slide 50 rfl) rfl ?_
                exact ih1 x89 h88
              · refine S_iconst_ 1 (dc_X1_slide 31 rfl) rfl ?_
                refine Sx.err hE1 ?_
                exact S_iret (dc_X1_slide 32 rfl) hT rfl (e_rqI hr)
      exact ih1 F 0 h23
  · refine S_iconst_ (-1) (dc_X1_slide 4 rfl) rfl ?_
    exact S_iret (dc_X1_slide 5 rfl) hT rfl (e_rqI hr)
abbrev cX1_snap : ByteArray := prog_1_method_45_code
def yX1_snap : MethodName := ⟨"PegBands", "snap", "(I)I"⟩
def tb_X1_snap : List (Nat × Instr × Nat) := [(0, .aload_n 0, 1), (1, .iload_n 1, 1), (2, .invokevirtual 241, 3), (5, .ifCond .ne 5, 3), (8, .iconst (-1), 1), (9, .ireturn, 1), (10, .aload_n 0, 1), (11, .getfield 63, 3), (14, .invokevirtual 343, 3), (17, .istore_n 2, 1), (18, .aload_n 0, 1), (19, .invokevirtual 333, 3), (22, .iload_n 1, 1), (23, .istore_n 3, 1), (24, .iload_n 3, 1), (25, .iconst 1, 1), (26, .iadd, 1), (27, .aload_n 0, 1), (28, .getfield 63, 3), (31, .getfield 234, 3), (34, .if_icmp .ge 29, 3), (37, .aload_n 0, 1), (38, .getfield 63, 3), (41, .getfield 248, 3), (44, .iload_n 3, 1), (45, .aload_n 0, 1), (46, .getfield 63, 3), (49, .getfield 248, 3), (52, .iload_n 3, 1), (53, .iconst 1, 1), (54, .iadd, 1), (55, .aaload, 1), (56, .aastore, 1), (57, .iinc 3 1, 3), (60, .goto (-36), 3), (63, .aload_n 0, 1), (64, .getfield 63, 3), (67, .dup, 1), (68, .getfield 234, 3), (71, .iconst 1, 1), (72, .isub, 1), (73, .putfield 234, 3), (76, .aload_n 0, 1), (77, .getfield 63, 3), (80, .invokevirtual 343, 3), (83, .iload_n 2, 1), (84, .isub, 1), (85, .ireturn, 1)]
theorem tk_X1_snap : ∀ q ∈ tb_X1_snap, decode cX1_snap q.1 = .ok q.2 := by decide +kernel
theorem dc_X1_snap (k : Nat) {pc n : Nat} {i : Instr} (h : tb_X1_snap[k]? = some (pc, i, n)) : decode cX1_snap pc = .ok (i, n) := tk_X1_snap (pc, i, n) (List.mem_of_getElem? h)
abbrev mX1_snap : e_M := (yX1_snap, cX1_snap, 4, some (.int), [])
theorem ok_X1_snap : e_mok mX1_snap 1 := ⟨q983, q108, by decide +kernel, fun sig h => by cases h; rfl⟩
def lp_X1_snap_24 (F : Nat) (a0 : Nat) : Nat → Int32 → e_H → Option (e_H)
  | 0, _, _ => none
  | n + 1, x3_24, h_24 =>
    Option.bind (e_fA h_24 a0 0 6) (fun x28 =>
    Option.bind (e_fI h_24 x28 2 4) (fun x31 =>
    if x31 ≤ (x3_24 + 1) then
      some h_24
    else
      Option.bind (e_fA h_24 a0 0 6) (fun x38 =>
      Option.bind (e_fA h_24 x38 2 0) (fun x41 =>
      Option.bind (e_fA h_24 a0 0 6) (fun x46 =>
      Option.bind (e_fA h_24 x46 2 0) (fun x49 =>
      Option.bind (e_aA h_24 x49 4 (x3_24 + 1)) (fun x55 =>
      Option.bind (e_wR h_24 x41 4 x3_24 (some x55)) (fun h56 =>
      Option.bind (some (x3_24 + 1)) (fun x57 =>
      lp_X1_snap_24 F a0 n x57 h56)))))))))
def f_X1_snap (F : Nat) (h : e_H) (a0 : Nat) (a1 : Int32) : Option (Int32 × e_H) :=
  Option.bind (e_is h a0 0) (fun _ =>
  Option.bind (f_X1_isBand h a0 a1) (fun x2 =>
  if x2 = 0 then
    some ((-1), h)
  else
    Option.bind (e_fA h a0 0 6) (fun x11 =>
    Option.bind (e_is h x11 2) (fun _ =>
    Option.bind (f_X3_free F h x11) (fun x14 =>
    Option.bind (f_X1_keep h a0) (fun h19 =>
    Option.bind (
        lp_X1_snap_24 F a0 F a1 h19
      : Option (e_H)) (fun h63_1 =>
    Option.bind (e_fA h63_1 a0 0 6) (fun x64 =>
    Option.bind (e_fI h63_1 x64 2 4) (fun x68 =>
    Option.bind (e_gI h63_1 x64 2 4 (x68 - 1)) (fun h73 =>
    Option.bind (e_fA h73 a0 0 6) (fun x77 =>
    Option.bind (e_is h73 x77 2) (fun _ =>
    Option.bind (f_X3_free F h73 x77) (fun x80 =>
    some ((x80 - x14), h73))))))))))))))
set_option maxHeartbeats 4000000 in
set_option maxRecDepth 100000 in
theorem ct_X1_snap {l : Launch} {D : e_D} {B : Heap} {F : Nat} {d : Nat} {h : e_H} {a0 : Nat} {a1 : Int32} {v : Int32} {h1 : e_H} (hd : 6 ≤ d) (e : f_X1_snap F h a0 a1 = some (v, h1)) : e_Run l D B d mX1_snap [.ref a0, .int a1] h (.ok (some (.int v)), h1) := by
  refine e_start [some (.ref a0), some (.int a1), none, none] (by decide) rfl rfl rfl (Nat.le_of_ble_eq_true rfl) (fun K hl0 hD0 hB0 hM hd0 hr => ?_)
  subst hl0 hD0 hB0 hd0
  have ho : (k_M K).1.cls = "PegBands" := by rw [hM]; rfl
  have hT : (k_M K).2.2.2.1 = some (.int) := by rw [hM]
  refine (show Sx K cX1_snap 0 [some (.ref a0), some (.int a1), none, none] [] h (f_X1_snap F h a0 a1) (fun w => w = (v, h1)) from ?_) _ e rfl
  clear e
  unfold f_X1_snap
  refine S_aload_n (dc_X1_snap 0 rfl) rfl ?_
  refine S_iload_n (dc_X1_snap 1 rfl) rfl ?_
  refine Sx.ask (fun _ i2 => ?_)
  refine S_roI (d := k_d K - 1) (e_callV (b := a0) (As := [.int a1]) (rest := []) ok_X1_isBand rfl (Nat.le_of_ble_eq_true rfl) (dc_X1_snap 2 rfl) ho q859 q861 (show e_cl[0]? = some (RX1, TX1, 37) from rfl) (e_sel.of qs7) (e_is_of i2) rfl (Nat.le_of_ble_eq_true rfl)) (by omega) (fun _ e => ct_X1_isBand (by omega) e) (fun x2 e2 => ?_)
  refine S_if_ne 10 (dc_X1_snap 3 rfl) rfl (fun c5 => ?_) (fun c5 => ?_)
  · refine S_aload_n (dc_X1_snap 6 rfl) rfl ?_
    refine S_getA (dc_X1_snap 7 rfl) ho fl_X1_63_0_6 (fun _ _ => rfl) (fun x11 e11 => ?_)
    refine Sx.ask (fun _ i14 => ?_)
    refine S_roI (d := k_d K - 1) (e_callV (b := x11) (As := []) (rest := []) ok_X3_free rfl (Nat.le_of_ble_eq_true rfl) (dc_X1_snap 8 rfl) ho q984 q985 (show e_cl[2]? = some (RX3, TX3, 7) from rfl) (e_sel.of q986) (e_is_of i14) rfl (Nat.le_of_ble_eq_true rfl)) (by omega) (fun _ e => ct_X3_free (by omega) e) (fun x14 e14 => ?_)
    refine S_istore_n (L' := [some (.ref a0), some (.int a1), some (.int x14), none]) (dc_X1_snap 9 rfl) rfl ?_
    refine S_aload_n (dc_X1_snap 10 rfl) rfl ?_
    refine S_rwV (d := k_d K - 1) (e_callV (b := a0) (As := []) (rest := []) ok_X1_keep rfl (Nat.le_of_ble_eq_true rfl) (dc_X1_snap 11 rfl) ho q972 q974 (show e_cl[0]? = some (RX1, TX1, 37) from rfl) (e_sel.of qs11) (e_is_of i2) rfl (Nat.le_of_ble_eq_true rfl)) (by omega) (fun _ e => ct_X1_keep (by omega) e) (fun h19 e19 => ?_)
    refine S_iload_n (dc_X1_snap 12 rfl) rfl ?_
    refine S_istore_n (L' := [some (.ref a0), some (.int a1), some (.int x14), some (.int a1)]) (dc_X1_snap 13 rfl) rfl ?_
    refine Sx.regK1 (pc2 := 63) (L2 := fun (h63_1 : e_H) => [some (.ref a0), none, some (.int x14), none]) (st2 := fun (h63_1 : e_H) => []) (h2 := fun (h63_1 : e_H) => h63_1) ?_ (fun Q1 hK1 => ?_)
    · intro h63_1
      show Sx K cX1_snap 63 [some (.ref a0), none, some (.int x14), none] [] h63_1 _ _
      refine S_aload_n (dc_X1_snap 35 rfl) rfl ?_
      refine S_getA (dc_X1_snap 36 rfl) ho fl_X1_63_0_6 (fun _ _ => rfl) (fun x64 e64 => ?_)
      refine S_dup (dc_X1_snap 37 rfl) rfl ?_
      refine S_getI (dc_X1_snap 38 rfl) ho fl_X1_234_2_4 (fun _ _ => rfl) (fun x68 e68 => ?_)
      refine S_iconst_ 1 (dc_X1_snap 39 rfl) rfl ?_
      refine S_isub (dc_X1_snap 40 rfl) ?_
      refine S_putI (dc_X1_snap 41 rfl) ho fl_X1_234_2_4 (fun _ _ => rfl) (Or.inl rfl) rfl rfl (fun h73 e73 => ?_)
      refine S_aload_n (dc_X1_snap 42 rfl) rfl ?_
      refine S_getA (dc_X1_snap 43 rfl) ho fl_X1_63_0_6 (fun _ _ => rfl) (fun x77 e77 => ?_)
      refine Sx.ask (fun _ i80 => ?_)
      refine S_roI (d := k_d K - 1) (e_callV (b := x77) (As := []) (rest := []) ok_X3_free rfl (Nat.le_of_ble_eq_true rfl) (dc_X1_snap 44 rfl) ho q984 q985 (show e_cl[2]? = some (RX3, TX3, 7) from rfl) (e_sel.of q986) (e_is_of i80) rfl (Nat.le_of_ble_eq_true rfl)) (by omega) (fun _ e => ct_X3_free (by omega) e) (fun x80 e80 => ?_)
      refine S_iload_n (dc_X1_snap 45 rfl) rfl ?_
      refine S_isub (dc_X1_snap 46 rfl) ?_
      exact S_iret (dc_X1_snap 47 rfl) hT rfl (e_rqI hr)
    · have hK1 : ∀ (h63_1 : e_H), Sx K cX1_snap 63 [some (.ref a0), none, some (.int x14), none] [] h63_1 (some h63_1) Q1 := hK1
      have ih1 : ∀ (n : Nat) (x3_24 : Int32) (h_24 : e_H), Sx K cX1_snap 24 [some (.ref a0), none, some (.int x14), some (.int x3_24)] [] h_24 (lp_X1_snap_24 F a0 n x3_24 h_24) Q1 := by
        intro n
        induction n with
        | zero => intro x3_24 h_24; exact Sx.none
        | succ n ih1 =>
          intro x3_24 h_24
          rw [lp_X1_snap_24.eq_2]
          refine S_iload_n (dc_X1_snap 14 rfl) rfl ?_
          refine S_iconst_ 1 (dc_X1_snap 15 rfl) rfl ?_
          refine S_iadd (dc_X1_snap 16 rfl) ?_
          refine S_aload_n (dc_X1_snap 17 rfl) rfl ?_
          refine S_getA (dc_X1_snap 18 rfl) ho fl_X1_63_0_6 (fun _ _ => rfl) (fun x28 e28 => ?_)
          refine S_getI (dc_X1_snap 19 rfl) ho fl_X1_234_2_4 (fun _ _ => rfl) (fun x31 e31 => ?_)
          refine S_icmp_ge 63 (dc_X1_snap 20 rfl) rfl (fun c34 => ?_) (fun c34 => ?_)
          · refine Sx.cut [true, true, true, false] ?_
            exact hK1 h_24
          · refine S_aload_n (dc_X1_snap 21 rfl) rfl ?_
            refine S_getA (dc_X1_snap 22 rfl) ho fl_X1_63_0_6 (fun _ _ => rfl) (fun x38 e38 => ?_)
            refine S_getA (dc_X1_snap 23 rfl) ho fl_X1_248_2_0 (fun _ _ => rfl) (fun x41 e41 => ?_)
            refine S_iload_n (dc_X1_snap 24 rfl) rfl ?_
            refine S_aload_n (dc_X1_snap 25 rfl) rfl ?_
            refine S_getA (dc_X1_snap 26 rfl) ho fl_X1_63_0_6 (fun _ _ => rfl) (fun x46 e46 => ?_)
            refine S_getA (dc_X1_snap 27 rfl) ho fl_X1_248_2_0 (fun _ _ => rfl) (fun x49 e49 => ?_)
            refine S_iload_n (dc_X1_snap 28 rfl) rfl ?_
            refine S_iconst_ 1 (dc_X1_snap 29 rfl) rfl ?_
            refine S_iadd (dc_X1_snap 30 rfl) ?_
            refine S_aaldA4 (dc_X1_snap 31 rfl) (fun x55 e55 => ?_)
            refine S_aastV (t := 4) (dc_X1_snap 32 rfl) rfl (fun _ _ _ => rfl) (fun h56 e56 => ?_)
            refine S_iincN 1 (L' := fun x57 => [some (.ref a0), none, some (.int x14), some (.int x57)]) (dc_X1_snap 33 rfl) rfl rfl (fun _ => rfl) (fun x57 n57 => ?_)
            refine S_goto 24 (dc_X1_snap 34 rfl) rfl ?_
            exact ih1 x57 h56
      refine Sx.cut [true, false, true, true] ?_
      exact ih1 F a1 h19
  · refine S_iconst_ (-1) (dc_X1_snap 4 rfl) rfl ?_
    exact S_iret (dc_X1_snap 5 rfl) hT rfl (e_rqI hr)
abbrev cX1_free : ByteArray := prog_1_method_46_code
def yX1_free : MethodName := ⟨"PegBands", "free", "()I"⟩
def tb_X1_free : List (Nat × Instr × Nat) := [(0, .aload_n 0, 1), (1, .getfield 63, 3), (4, .invokevirtual 343, 3), (7, .ireturn, 1)]
theorem tk_X1_free : ∀ q ∈ tb_X1_free, decode cX1_free q.1 = .ok q.2 := by decide +kernel
theorem dc_X1_free (k : Nat) {pc n : Nat} {i : Instr} (h : tb_X1_free[k]? = some (pc, i, n)) : decode cX1_free pc = .ok (i, n) := tk_X1_free (pc, i, n) (List.mem_of_getElem? h)
abbrev mX1_free : e_M := (yX1_free, cX1_free, 1, some (.int), [])
theorem ok_X1_free : e_mok mX1_free 0 := ⟨q996, q108, by decide +kernel, fun sig h => by cases h; rfl⟩
def f_X1_free (F : Nat) (h : e_H) (a0 : Nat) : Option Int32 :=
  Option.bind (e_fA h a0 0 6) (fun x1 =>
  Option.bind (e_is h x1 2) (fun _ =>
  Option.bind (f_X3_free F h x1) (fun x4 =>
  some x4)))
set_option maxHeartbeats 4000000 in
set_option maxRecDepth 100000 in
theorem ct_X1_free {l : Launch} {D : e_D} {B : Heap} {F : Nat} {d : Nat} {h : e_H} {a0 : Nat} {v : Int32} (hd : 6 ≤ d) (e : f_X1_free F h a0 = some v) : e_Run l D B d mX1_free [.ref a0] h (.ok (some (.int v)), h) := by
  refine e_start [some (.ref a0)] (by decide) rfl rfl rfl (Nat.le_of_ble_eq_true rfl) (fun K hl0 hD0 hB0 hM hd0 hr => ?_)
  subst hl0 hD0 hB0 hd0
  have ho : (k_M K).1.cls = "PegBands" := by rw [hM]; rfl
  have hT : (k_M K).2.2.2.1 = some (.int) := by rw [hM]
  refine (show Sx K cX1_free 0 [some (.ref a0)] [] h (f_X1_free F h a0) (fun w => w = v) from ?_) _ e rfl
  clear e
  unfold f_X1_free
  refine S_aload_n (dc_X1_free 0 rfl) rfl ?_
  refine S_getA (dc_X1_free 1 rfl) ho fl_X1_63_0_6 (fun _ _ => rfl) (fun x1 e1 => ?_)
  refine Sx.ask (fun _ i4 => ?_)
  refine S_roI (d := k_d K - 1) (e_callV (b := x1) (As := []) (rest := []) ok_X3_free rfl (Nat.le_of_ble_eq_true rfl) (dc_X1_free 2 rfl) ho q984 q985 (show e_cl[2]? = some (RX3, TX3, 7) from rfl) (e_sel.of q986) (e_is_of i4) rfl (Nat.le_of_ble_eq_true rfl)) (by omega) (fun _ e => ct_X3_free (by omega) e) (fun x4 e4 => ?_)
  exact S_iret (dc_X1_free 3 rfl) hT rfl (fun q => by cases q; exact hr)
abbrev cX1_calls : ByteArray := prog_1_method_47_code
def yX1_calls : MethodName := ⟨"PegBands", "calls", "()I"⟩
def tb_X1_calls : List (Nat × Instr × Nat) := [(0, .aload_n 0, 1), (1, .invokevirtual 199, 3), (4, .aload_n 0, 1), (5, .iconst 0, 1), (6, .putfield 202, 3), (9, .aload_n 0, 1), (10, .getfield 88, 3), (13, .aload_n 0, 1), (14, .getfield 73, 3), (17, .invokevirtual 346, 3), (20, .aload_n 0, 1), (21, .getfield 69, 3), (24, .aload_n 0, 1), (25, .getfield 73, 3), (28, .invokevirtual 349, 3), (31, .aload_n 0, 1), (32, .getfield 69, 3), (35, .getfield 209, 3), (38, .ireturn, 1), (39, .astore_n 1, 1), (40, .aload_n 0, 1), (41, .aload_n 1, 1), (42, .getfield 222, 3), (45, .putfield 202, 3), (48, .iconst (-1), 1), (49, .aload_n 1, 1), (50, .getfield 225, 3), (53, .isub, 1), (54, .ireturn, 1)]
theorem tk_X1_calls : ∀ q ∈ tb_X1_calls, decode cX1_calls q.1 = .ok q.2 := by decide +kernel
theorem dc_X1_calls (k : Nat) {pc n : Nat} {i : Instr} (h : tb_X1_calls[k]? = some (pc, i, n)) : decode cX1_calls pc = .ok (i, n) := tk_X1_calls (pc, i, n) (List.mem_of_getElem? h)
abbrev mX1_calls : e_M := (yX1_calls, cX1_calls, 2, some (.int), [(9, 38, 39, 13)])
theorem ok_X1_calls : e_mok mX1_calls 0 := ⟨q1000, q108, by decide +kernel, fun sig h => by cases h; rfl⟩
def f_X1_calls (F : Nat) (A : Nat → Nat) (h : e_H) (a0 : Nat) : Option (Int32 × e_H) :=
  Option.bind (e_is h a0 0) (fun _ =>
  Option.bind (f_X1_taken h a0) (fun h1 =>
  Option.bind (e_gI h1 a0 0 11 0) (fun h6 =>
  Option.bind (e_fA h6 a0 0 10) (fun x10 =>
  Option.bind (e_fA h6 a0 0 8) (fun x14 =>
  Option.bind (e_is h6 x10 5) (fun _ =>
  e_b3 (f_X7_read F A h6 x10 x14) (fun z17 h17 =>
      if z17.1 = 0 then
        Option.bind (e_fI h17 z17.2 1 6) (fun x42 =>
        Option.bind (e_gI h17 a0 0 11 x42) (fun h45 =>
        Option.bind (e_fI h45 z17.2 1 7) (fun x50 =>
        some (((-1) - x50), h45))))
      else none) (fun _ h17 =>
  Option.bind (e_fA h17 a0 0 7) (fun x21 =>
  Option.bind (e_fA h17 a0 0 8) (fun x25 =>
  Option.bind (e_is h17 x21 3) (fun _ =>
  Option.bind (f_X4_be h17 x21 x25) (fun h28 =>
  Option.bind (e_fA h28 a0 0 7) (fun x32 =>
  Option.bind (e_fI h28 x32 3 4) (fun x35 =>
  some (x35, h28))))))))))))))
set_option maxHeartbeats 4000000 in
set_option maxRecDepth 100000 in
theorem ct_X1_calls {l : Launch} {D : e_D} {B : Heap} {F : Nat} {A : Nat → Nat} {d : Nat} {h : e_H} {a0 : Nat} {v : Int32} {h1 : e_H} (hA : D.2.2.1 = A) (hd : 9 ≤ d) (e : f_X1_calls F A h a0 = some (v, h1)) : e_Run l D B d mX1_calls [.ref a0] h (.ok (some (.int v)), h1) := by
  refine e_startW [some (.ref a0), none] (by decide) rfl rfl rfl (Nat.le_of_ble_eq_true rfl) (fun K hl0 hD0 hB0 hM hd0 hr => ?_)
  subst hl0 hD0 hB0 hd0
  have ho : (k_M K).1.cls = "PegBands" := by rw [hM]; rfl
  have hT : (k_M K).2.2.2.1 = some (.int) := by rw [hM]
  refine (show Sx K cX1_calls 0 [some (.ref a0), none] [] h (f_X1_calls F A h a0) (fun w => w = (v, h1)) from ?_) _ e rfl
  clear e
  unfold f_X1_calls
  refine S_aload_n (dc_X1_calls 0 rfl) rfl ?_
  refine Sx.ask (fun _ i1 => ?_)
  refine S_rwV (d := k_d K - 1) (e_callV (b := a0) (As := []) (rest := []) ok_X1_taken rfl (Nat.le_of_ble_eq_true rfl) (dc_X1_calls 1 rfl) ho q586 q588 (show e_cl[0]? = some (RX1, TX1, 37) from rfl) (e_sel.of qs2) (e_is_of i1) rfl (Nat.le_of_ble_eq_true rfl)) (by omega) (fun _ e => ct_X1_taken (by omega) e) (fun h1 e1 => ?_)
  refine S_aload_n (dc_X1_calls 2 rfl) rfl ?_
  refine S_iconst_ 0 (dc_X1_calls 3 rfl) rfl ?_
  refine S_putI (dc_X1_calls 4 rfl) ho fl_X1_202_0_11 (fun _ _ => rfl) (Or.inl rfl) rfl rfl (fun h6 e6 => ?_)
  refine S_aload_n (dc_X1_calls 5 rfl) rfl ?_
  refine S_getA (dc_X1_calls 6 rfl) ho fl_X1_88_0_10 (fun _ _ => rfl) (fun x10 e10 => ?_)
  refine S_aload_n (dc_X1_calls 7 rfl) rfl ?_
  refine S_getA (dc_X1_calls 8 rfl) ho fl_X1_73_0_8 (fun _ _ => rfl) (fun x14 e14 => ?_)
  refine Sx.ask (fun _ i17 => ?_)
  refine S_exV (d := k_d K - 1) (e_callV (b := x10) (As := [.ref x14]) (rest := []) ok_X7_read rfl (Nat.le_of_ble_eq_true rfl) (dc_X1_calls 9 rfl) ho q1001 q1002 (show e_cl[5]? = some (RX7, TX7, 9) from rfl) (e_sel.of q1003) (e_is_of i17) rfl (Nat.le_of_ble_eq_true rfl)) (by omega) (fun _ _ e => ct_X7_read hA (by omega) e) (fun z17 h17 e17 => ?_) (fun _ h17 e17 => ?_)
  · refine SxX.cond (fun k17 => ?_)
    refine SxX.catch [] ⟨9, 38, 39, 13⟩ [] ho (by rw [hM]; rfl) (fun _ h => by cases h) (by decide) (by decide) q143 (by rw [k17]; exact q145) ?_
    refine S_astore_n (L' := [some (.ref a0), some (.ref z17.2)]) (dc_X1_calls 19 rfl) rfl ?_
    refine S_aload_n (dc_X1_calls 20 rfl) rfl ?_
    refine S_aload_n (dc_X1_calls 21 rfl) rfl ?_
    refine S_getI (dc_X1_calls 22 rfl) ho fl_X1_222_1_6 (fun _ _ => rfl) (fun x42 e42 => ?_)
    refine S_putI (dc_X1_calls 23 rfl) ho fl_X1_202_0_11 (fun _ _ => rfl) (Or.inl rfl) rfl rfl (fun h45 e45 => ?_)
    refine S_iconst_ (-1) (dc_X1_calls 24 rfl) rfl ?_
    refine S_aload_n (dc_X1_calls 25 rfl) rfl ?_
    refine S_getI (dc_X1_calls 26 rfl) ho fl_X1_225_1_7 (fun _ _ => rfl) (fun x50 e50 => ?_)
    refine S_isub (dc_X1_calls 27 rfl) ?_
    exact S_iret (dc_X1_calls 28 rfl) hT rfl (e_rqI hr)
  refine S_aload_n (dc_X1_calls 10 rfl) rfl ?_
  refine S_getA (dc_X1_calls 11 rfl) ho fl_X1_69_0_7 (fun _ _ => rfl) (fun x21 e21 => ?_)
  refine S_aload_n (dc_X1_calls 12 rfl) rfl ?_
  refine S_getA (dc_X1_calls 13 rfl) ho fl_X1_73_0_8 (fun _ _ => rfl) (fun x25 e25 => ?_)
  refine Sx.ask (fun _ i28 => ?_)
  refine S_rwV (d := k_d K - 1) (e_callV (b := x21) (As := [.ref x25]) (rest := []) ok_X4_be rfl (Nat.le_of_ble_eq_true rfl) (dc_X1_calls 14 rfl) ho q1035 q1036 (show e_cl[3]? = some (RX4, TX4, 5) from rfl) (e_sel.of q1037) (e_is_of i28) rfl (Nat.le_of_ble_eq_true rfl)) (by omega) (fun _ e => ct_X4_be (by omega) e) (fun h28 e28 => ?_)
  refine S_aload_n (dc_X1_calls 15 rfl) rfl ?_
  refine S_getA (dc_X1_calls 16 rfl) ho fl_X1_69_0_7 (fun _ _ => rfl) (fun x32 e32 => ?_)
  refine S_getI (dc_X1_calls 17 rfl) ho fl_X1_209_3_4 (fun _ _ => rfl) (fun x35 e35 => ?_)
  exact S_iret (dc_X1_calls 18 rfl) hT rfl (e_rqI hr)
abbrev cX1_closes : ByteArray := prog_1_method_48_code
def yX1_closes : MethodName := ⟨"PegBands", "closes", "()I"⟩
def tb_X1_closes : List (Nat × Instr × Nat) := [(0, .aload_n 0, 1), (1, .getfield 69, 3), (4, .getfield 209, 3), (7, .ifCond .ne 7, 3), (10, .iconst (-1), 1), (11, .goto 18, 3), (14, .aload_n 0, 1), (15, .getfield 69, 3), (18, .invokevirtual 352, 3), (21, .ifCond .eq 7, 3), (24, .iconst 1, 1), (25, .goto 4, 3), (28, .iconst 0, 1), (29, .ireturn, 1)]
theorem tk_X1_closes : ∀ q ∈ tb_X1_closes, decode cX1_closes q.1 = .ok q.2 := by decide +kernel
theorem dc_X1_closes (k : Nat) {pc n : Nat} {i : Instr} (h : tb_X1_closes[k]? = some (pc, i, n)) : decode cX1_closes pc = .ok (i, n) := tk_X1_closes (pc, i, n) (List.mem_of_getElem? h)
abbrev mX1_closes : e_M := (yX1_closes, cX1_closes, 1, some (.int), [])
theorem ok_X1_closes : e_mok mX1_closes 0 := ⟨q1043, q108, by decide +kernel, fun sig h => by cases h; rfl⟩
def f_X1_closes (F : Nat) (h : e_H) (a0 : Nat) : Option Int32 :=
  Option.bind (e_fA h a0 0 7) (fun x1 =>
  Option.bind (e_fI h x1 3 4) (fun x4 =>
  if x4 = 0 then
    some (-1)
  else
    Option.bind (e_fA h a0 0 7) (fun x15 =>
    Option.bind (e_is h x15 3) (fun _ =>
    Option.bind (f_X4_isClosed F h x15) (fun x18 =>
    if x18 = 0 then
      some 0
    else
      some 1)))))
set_option maxHeartbeats 4000000 in
set_option maxRecDepth 100000 in
theorem ct_X1_closes {l : Launch} {D : e_D} {B : Heap} {F : Nat} {d : Nat} {h : e_H} {a0 : Nat} {v : Int32} (hd : 3 ≤ d) (e : f_X1_closes F h a0 = some v) : e_Run l D B d mX1_closes [.ref a0] h (.ok (some (.int v)), h) := by
  refine e_start [some (.ref a0)] (by decide) rfl rfl rfl (Nat.le_of_ble_eq_true rfl) (fun K hl0 hD0 hB0 hM hd0 hr => ?_)
  subst hl0 hD0 hB0 hd0
  have ho : (k_M K).1.cls = "PegBands" := by rw [hM]; rfl
  have hT : (k_M K).2.2.2.1 = some (.int) := by rw [hM]
  refine (show Sx K cX1_closes 0 [some (.ref a0)] [] h (f_X1_closes F h a0) (fun w => w = v) from ?_) _ e rfl
  clear e
  unfold f_X1_closes
  refine S_aload_n (dc_X1_closes 0 rfl) rfl ?_
  refine S_getA (dc_X1_closes 1 rfl) ho fl_X1_69_0_7 (fun _ _ => rfl) (fun x1 e1 => ?_)
  refine S_getI (dc_X1_closes 2 rfl) ho fl_X1_209_3_4 (fun _ _ => rfl) (fun x4 e4 => ?_)
  refine S_if_ne 14 (dc_X1_closes 3 rfl) rfl (fun c7 => ?_) (fun c7 => ?_)
  · refine S_aload_n (dc_X1_closes 6 rfl) rfl ?_
    refine S_getA (dc_X1_closes 7 rfl) ho fl_X1_69_0_7 (fun _ _ => rfl) (fun x15 e15 => ?_)
    refine Sx.ask (fun _ i18 => ?_)
    refine S_roI (d := k_d K - 1) (e_callV (b := x15) (As := []) (rest := []) ok_X4_isClosed rfl (Nat.le_of_ble_eq_true rfl) (dc_X1_closes 8 rfl) ho q1044 q1045 (show e_cl[3]? = some (RX4, TX4, 5) from rfl) (e_sel.of q1046) (e_is_of i18) rfl (Nat.le_of_ble_eq_true rfl)) (by omega) (fun _ e => ct_X4_isClosed (by omega) e) (fun x18 e18 => ?_)
    refine S_if_eq 28 (dc_X1_closes 9 rfl) rfl (fun c21 => ?_) (fun c21 => ?_)
    · refine S_iconst_ 0 (dc_X1_closes 12 rfl) rfl ?_
      exact S_iret (dc_X1_closes 13 rfl) hT rfl (fun q => by cases q; exact hr)
    · refine S_iconst_ 1 (dc_X1_closes 10 rfl) rfl ?_
      refine S_goto 29 (dc_X1_closes 11 rfl) rfl ?_
      exact S_iret (dc_X1_closes 13 rfl) hT rfl (fun q => by cases q; exact hr)
  · refine S_iconst_ (-1) (dc_X1_closes 4 rfl) rfl ?_
    refine S_goto 29 (dc_X1_closes 5 rfl) rfl ?_
    exact S_iret (dc_X1_closes 13 rfl) hT rfl (fun q => by cases q; exact hr)
abbrev cX1_isSound : ByteArray := prog_1_method_49_code
def yX1_isSound : MethodName := ⟨"PegBands", "isSound", "(LPegBands$Band;)Z"⟩
def tb_X1_isSound : List (Nat × Instr × Nat) := [(0, .iconst 0, 1), (1, .istore_n 2, 1), (2, .iload_n 2, 1), (3, .aload_n 1, 1), (4, .getfield 251, 3), (7, .if_icmp .ge 33, 3), (10, .aload_n 0, 1), (11, .getfield 63, 3), (14, .aload_n 1, 1), (15, .getfield 273, 3), (18, .iload_n 2, 1), (19, .iaload, 1), (20, .aload_n 1, 1), (21, .getfield 270, 3), (24, .iload_n 2, 1), (25, .iaload, 1), (26, .invokevirtual 356, 3), (29, .ifCond .ne 5, 3), (32, .iconst 0, 1), (33, .ireturn, 1), (34, .iinc 2 1, 3), (37, .goto (-35), 3), (40, .aload_n 1, 1), (41, .invokevirtual 359, 3), (44, .ifCond .ne 7, 3), (47, .iconst 1, 1), (48, .goto 4, 3), (51, .iconst 0, 1), (52, .ireturn, 1)]
theorem tk_X1_isSound : ∀ q ∈ tb_X1_isSound, decode cX1_isSound q.1 = .ok q.2 := by decide +kernel
theorem dc_X1_isSound (k : Nat) {pc n : Nat} {i : Instr} (h : tb_X1_isSound[k]? = some (pc, i, n)) : decode cX1_isSound pc = .ok (i, n) := tk_X1_isSound (pc, i, n) (List.mem_of_getElem? h)
abbrev mX1_isSound : e_M := (yX1_isSound, cX1_isSound, 3, some (.boolean), [])
theorem ok_X1_isSound : e_mok mX1_isSound 1 := ⟨q1066, q108, by decide +kernel, fun sig h => by cases h; rfl⟩
def lp_X1_isSound_2 (F : Nat) (h : e_H) (a0 : Nat) (a1 : Nat) : Nat → Int32 → Option (Except Int32 Unit)
  | 0, _ => none
  | n + 1, x2_2 =>
    Option.bind (e_fI h a1 6 2) (fun x4 =>
    if x4 ≤ x2_2 then
      some (.ok ())
    else
      Option.bind (e_fA h a0 0 6) (fun x11 =>
      Option.bind (e_fA h a1 6 0) (fun x15 =>
      Option.bind (e_aI h x15 0 x2_2) (fun x19 =>
      Option.bind (e_fA h a1 6 1) (fun x21 =>
      Option.bind (e_aI h x21 0 x2_2) (fun x25 =>
      Option.bind (e_is h x11 2) (fun _ =>
      Option.bind (f_X3_isPeg h x11 x19 x25) (fun x26 =>
      if x26 = 0 then
        some (.error 0)
      else
        Option.bind (some (x2_2 + 1)) (fun x34 =>
        lp_X1_isSound_2 F h a0 a1 n x34)))))))))
def f_X1_isSound (F : Nat) (h : e_H) (a0 : Nat) (a1 : Nat) : Option Int32 :=
  e_bE (
      lp_X1_isSound_2 F h a0 a1 F 0
    : Option (Except Int32 Unit)) (fun _ =>
  Option.bind (e_is h a1 6) (fun _ =>
  Option.bind (f_X8_why F h a1) (fun x41 =>
  if x41 = 0 then
    some 1
  else
    some 0)))
set_option maxHeartbeats 4000000 in
set_option maxRecDepth 100000 in
theorem ct_X1_isSound {l : Launch} {D : e_D} {B : Heap} {F : Nat} {d : Nat} {h : e_H} {a0 : Nat} {a1 : Nat} {v : Int32} (hd : 6 ≤ d) (e : f_X1_isSound F h a0 a1 = some v) : e_Run l D B d mX1_isSound [.ref a0, .ref a1] h (.ok (some (.int v)), h) := by
  refine e_start [some (.ref a0), some (.ref a1), none] (by decide) rfl rfl rfl (Nat.le_of_ble_eq_true rfl) (fun K hl0 hD0 hB0 hM hd0 hr => ?_)
  subst hl0 hD0 hB0 hd0
  have ho : (k_M K).1.cls = "PegBands" := by rw [hM]; rfl
  have hT : (k_M K).2.2.2.1 = some (.boolean) := by rw [hM]
  refine (show Sx K cX1_isSound 0 [some (.ref a0), some (.ref a1), none] [] h (f_X1_isSound F h a0 a1) (fun w => w = v) from ?_) _ e rfl
  clear e
  unfold f_X1_isSound
  refine S_iconst_ 0 (dc_X1_isSound 0 rfl) rfl ?_
  refine S_istore_n (L' := [some (.ref a0), some (.ref a1), some (.int 0)]) (dc_X1_isSound 1 rfl) rfl ?_
  refine Sx.regKE0 (pc2 := 40) (L2 := [none, some (.ref a1), none]) (st2 := []) (h2 := h) ?_ (fun Q1 hK1 hE1 => ?_)
  · skip
    refine S_aload_n (dc_X1_isSound 22 rfl) rfl ?_
    refine Sx.ask (fun _ i41 => ?_)
    refine S_roI (d := k_d K - 1) (e_callV (b := a1) (As := []) (rest := []) ok_X8_why rfl (Nat.le_of_ble_eq_true rfl) (dc_X1_isSound 23 rfl) ho q1068 q787 (show e_cl[6]? = some (RX8, TX8, 4) from rfl) (e_sel.of q788) (e_is_of i41) rfl (Nat.le_of_ble_eq_true rfl)) (by omega) (fun _ e => ct_X8_why (by omega) e) (fun x41 e41 => ?_)
    refine S_if_ne 51 (dc_X1_isSound 24 rfl) rfl (fun c44 => ?_) (fun c44 => ?_)
    · refine S_iconst_ 0 (dc_X1_isSound 27 rfl) rfl ?_
      exact S_iret (dc_X1_isSound 28 rfl) hT rfl (fun q => by cases q; exact hr)
    · refine S_iconst_ 1 (dc_X1_isSound 25 rfl) rfl ?_
      refine S_goto 52 (dc_X1_isSound 26 rfl) rfl ?_
      exact S_iret (dc_X1_isSound 28 rfl) hT rfl (fun q => by cases q; exact hr)
  · have hK1 : Sx K cX1_isSound 40 [none, some (.ref a1), none] [] h (some (.ok ())) Q1 := hK1
    have ih1 : ∀ (n : Nat) (x2_2 : Int32), Sx K cX1_isSound 2 [some (.ref a0), some (.ref a1), some (.int x2_2)] [] h (lp_X1_isSound_2 F h a0 a1 n x2_2) Q1 := by
      intro n
      induction n with
      | zero => intro x2_2; exact Sx.none
      | succ n ih1 =>
        intro x2_2
        rw [lp_X1_isSound_2.eq_2]
        refine S_iload_n (dc_X1_isSound 2 rfl) rfl ?_
        refine S_aload_n (dc_X1_isSound 3 rfl) rfl ?_
        refine S_getI (dc_X1_isSound 4 rfl) ho fl_X1_251_6_2 (fun _ _ => rfl) (fun x4 e4 => ?_)
        refine S_icmp_ge 40 (dc_X1_isSound 5 rfl) rfl (fun c7 => ?_) (fun c7 => ?_)
        · refine Sx.cut [false, true, false] ?_
          exact hK1
        · refine S_aload_n (dc_X1_isSound 6 rfl) rfl ?_
          refine S_getA (dc_X1_isSound 7 rfl) ho fl_X1_63_0_6 (fun _ _ => rfl) (fun x11 e11 => ?_)
          refine S_aload_n (dc_X1_isSound 8 rfl) rfl ?_
          refine S_getA (dc_X1_isSound 9 rfl) ho fl_X1_273_6_0 (fun _ _ => rfl) (fun x15 e15 => ?_)
          refine S_iload_n (dc_X1_isSound 10 rfl) rfl ?_
          refine S_iald (dc_X1_isSound 11 rfl) (fun x19 e19 => ?_)
          refine S_aload_n (dc_X1_isSound 12 rfl) rfl ?_
          refine S_getA (dc_X1_isSound 13 rfl) ho fl_X1_270_6_1 (fun _ _ => rfl) (fun x21 e21 => ?_)
          refine S_iload_n (dc_X1_isSound 14 rfl) rfl ?_
          refine S_iald (dc_X1_isSound 15 rfl) (fun x25 e25 => ?_)
          refine Sx.ask (fun _ i26 => ?_)
          refine S_roI (d := k_d K - 1) (e_callV (b := x11) (As := [.int x19, .int x25]) (rest := []) ok_X3_isPeg rfl (Nat.le_of_ble_eq_true rfl) (dc_X1_isSound 16 rfl) ho q1067 q778 (show e_cl[2]? = some (RX3, TX3, 7) from rfl) (e_sel.of q779) (e_is_of i26) rfl (Nat.le_of_ble_eq_true rfl)) (by omega) (fun _ e => ct_X3_isPeg (by omega) e) (fun x26 e26 => ?_)
          refine S_if_ne 34 (dc_X1_isSound 17 rfl) rfl (fun c29 => ?_) (fun c29 => ?_)
          · refine S_iincN 1 (L' := fun x34 => [some (.ref a0), some (.ref a1), some (.int x34)]) (dc_X1_isSound 20 rfl) rfl rfl (fun _ => rfl) (fun x34 n34 => ?_)
            refine S_goto 2 (dc_X1_isSound 21 rfl) rfl ?_
            exact ih1 x34
          · refine S_iconst_ 0 (dc_X1_isSound 18 rfl) rfl ?_
            refine Sx.err hE1 ?_
            exact S_iret (dc_X1_isSound 19 rfl) hT rfl (fun q => by cases q; exact hr)
    exact ih1 F 0
abbrev cX1_mended : ByteArray := prog_1_method_50_code
def yX1_mended : MethodName := ⟨"PegBands", "mended", "(I)I"⟩
def tb_X1_mended : List (Nat × Instr × Nat) := [(0, .aload_n 0, 1), (1, .getfield 69, 3), (4, .getfield 209, 3), (7, .ifCond .eq 18, 3), (10, .aload_n 0, 1), (11, .getfield 69, 3), (14, .invokevirtual 352, 3), (17, .ifCond .ne 8, 3), (20, .iload_n 1, 1), (21, .iconst (-1), 1), (22, .if_icmp .ge 5, 3), (25, .iconst (-1), 1), (26, .ireturn, 1), (27, .iconst 0, 1), (28, .istore_n 2, 1), (29, .iconst 0, 1), (30, .istore_n 3, 1), (31, .iload_n 3, 1), (32, .aload_n 0, 1), (33, .getfield 69, 3), (36, .getfield 209, 3), (39, .if_icmp .ge 37, 3), (42, .aload_n 0, 1), (43, .aload_n 0, 1), (44, .getfield 69, 3), (47, .iload_n 3, 1), (48, .invokevirtual 361, 3), (51, .invokevirtual 364, 3), (54, .ifCond .ne 6, 3), (57, .goto 13, 3), (60, .iload_n 2, 1), (61, .iload_n 1, 1), (62, .if_icmp .ne 5, 3), (65, .iload_n 3, 1), (66, .ireturn, 1), (67, .iinc 2 1, 3), (70, .iinc 3 1, 3), (73, .goto (-42), 3), (76, .iload_n 1, 1), (77, .iconst (-1), 1), (78, .if_icmp .ne 7, 3), (81, .iload_n 2, 1), (82, .goto 4, 3), (85, .iconst (-1), 1), (86, .ireturn, 1)]
theorem tk_X1_mended : ∀ q ∈ tb_X1_mended, decode cX1_mended q.1 = .ok q.2 := by decide +kernel
theorem dc_X1_mended (k : Nat) {pc n : Nat} {i : Instr} (h : tb_X1_mended[k]? = some (pc, i, n)) : decode cX1_mended pc = .ok (i, n) := tk_X1_mended (pc, i, n) (List.mem_of_getElem? h)
abbrev mX1_mended : e_M := (yX1_mended, cX1_mended, 4, some (.int), [])
theorem ok_X1_mended : e_mok mX1_mended 1 := ⟨q1055, q108, by decide +kernel, fun sig h => by cases h; rfl⟩
def lp_X1_mended_31 (F : Nat) (a0 : Nat) (a1 : Int32) : Nat → Int32 → Int32 → e_H → Option (Except (Int32 × e_H) (Int32 × e_H))
  | 0, _, _, _ => none
  | n + 1, x2_31, x3_31, h_31 =>
    Option.bind (e_fA h_31 a0 0 7) (fun x33 =>
    Option.bind (e_fI h_31 x33 3 4) (fun x36 =>
    if x36 ≤ x3_31 then
      some (.ok (x2_31, h_31))
    else
      Option.bind (e_fA h_31 a0 0 7) (fun x44 =>
      Option.bind (e_is h_31 x44 3) (fun _ =>
      e_b2 (f_X4_band F h_31 x44 x3_31) (fun x48 h48 =>
      Option.bind (e_is h48 a0 0) (fun _ =>
      Option.bind (f_X1_isSound F h48 a0 x48) (fun x51 =>
      e_bE (
          if x51 = 0 then
            some (.ok x2_31)
          else
            if x2_31 = a1 then
              some (.error (.error (x3_31, h48)))
            else
              Option.bind (some (x2_31 + 1)) (fun x67 =>
              some (.ok x67))
        : Option (Except (Except (Int32 × e_H) (Int32 × e_H)) Int32)) (fun x2_70_2 =>
      Option.bind (some (x3_31 + 1)) (fun x70 =>
      lp_X1_mended_31 F a0 a1 n x2_70_2 x70 h48)))))))))
def f_X1_mended (F : Nat) (h : e_H) (a0 : Nat) (a1 : Int32) : Option (Int32 × e_H) :=
  Option.bind (e_fA h a0 0 7) (fun x1 =>
  Option.bind (e_fI h x1 3 4) (fun x4 =>
  if x4 = 0 then
    some ((-1), h)
  else
    Option.bind (e_fA h a0 0 7) (fun x11 =>
    Option.bind (e_is h x11 3) (fun _ =>
    Option.bind (f_X4_isClosed F h x11) (fun x14 =>
    if x14 = 0 then
      if (-1) ≤ a1 then
        e_bE (
            lp_X1_mended_31 F a0 a1 F 0 0 h
          : Option (Except (Int32 × e_H) (Int32 × e_H))) (e_u2 (fun x2_76_1 h76_1 =>
        if a1 = (-1) then
          some (x2_76_1, h76_1)
        else
          some ((-1), h76_1)))
      else
        some ((-1), h)
    else
      some ((-1), h))))))
set_option maxHeartbeats 4000000 in
set_option maxRecDepth 100000 in
theorem ct_X1_mended {l : Launch} {D : e_D} {B : Heap} {F : Nat} {d : Nat} {h : e_H} {a0 : Nat} {a1 : Int32} {v : Int32} {h1 : e_H} (hd : 7 ≤ d) (e : f_X1_mended F h a0 a1 = some (v, h1)) : e_Run l D B d mX1_mended [.ref a0, .int a1] h (.ok (some (.int v)), h1) := by
  refine e_start [some (.ref a0), some (.int a1), none, none] (by decide) rfl rfl rfl (Nat.le_of_ble_eq_true rfl) (fun K hl0 hD0 hB0 hM hd0 hr => ?_)
  subst hl0 hD0 hB0 hd0
  have ho : (k_M K).1.cls = "PegBands" := by rw [hM]; rfl
  have hT : (k_M K).2.2.2.1 = some (.int) := by rw [hM]
  refine (show Sx K cX1_mended 0 [some (.ref a0), some (.int a1), none, none] [] h (f_X1_mended F h a0 a1) (fun w => w = (v, h1)) from ?_) _ e rfl
  clear e
  unfold f_X1_mended
  refine S_aload_n (dc_X1_mended 0 rfl) rfl ?_
  refine S_getA (dc_X1_mended 1 rfl) ho fl_X1_69_0_7 (fun _ _ => rfl) (fun x1 e1 => ?_)
  refine S_getI (dc_X1_mended 2 rfl) ho fl_X1_209_3_4 (fun _ _ => rfl) (fun x4 e4 => ?_)
  refine S_if_eq 25 (dc_X1_mended 3 rfl) rfl (fun c7 => ?_) (fun c7 => ?_)
  · refine S_iconst_ (-1) (dc_X1_mended 11 rfl) rfl ?_
    exact S_iret (dc_X1_mended 12 rfl) hT rfl (e_rqI hr)
  · refine S_aload_n (dc_X1_mended 4 rfl) rfl ?_
    refine S_getA (dc_X1_mended 5 rfl) ho fl_X1_69_0_7 (fun _ _ => rfl) (fun x11 e11 => ?_)
    refine Sx.ask (fun _ i14 => ?_)
    refine S_roI (d := k_d K - 1) (e_callV (b := x11) (As := []) (rest := []) ok_X4_isClosed rfl (Nat.le_of_ble_eq_true rfl) (dc_X1_mended 6 rfl) ho q1044 q1045 (show e_cl[3]? = some (RX4, TX4, 5) from rfl) (e_sel.of q1046) (e_is_of i14) rfl (Nat.le_of_ble_eq_true rfl)) (by omega) (fun _ e => ct_X4_isClosed (by omega) e) (fun x14 e14 => ?_)
    refine S_if_ne 25 (dc_X1_mended 7 rfl) rfl (fun c17 => ?_) (fun c17 => ?_)
    · refine S_iconst_ (-1) (dc_X1_mended 11 rfl) rfl ?_
      exact S_iret (dc_X1_mended 12 rfl) hT rfl (e_rqI hr)
    · refine S_iload_n (dc_X1_mended 8 rfl) rfl ?_
      refine S_iconst_ (-1) (dc_X1_mended 9 rfl) rfl ?_
      refine S_icmp_ge 27 (dc_X1_mended 10 rfl) rfl (fun c22 => ?_) (fun c22 => ?_)
      · refine S_iconst_ 0 (dc_X1_mended 13 rfl) rfl ?_
        refine S_istore_n (L' := [some (.ref a0), some (.int a1), some (.int 0), none]) (dc_X1_mended 14 rfl) rfl ?_
        refine S_iconst_ 0 (dc_X1_mended 15 rfl) rfl ?_
        refine S_istore_n (L' := [some (.ref a0), some (.int a1), some (.int 0), some (.int 0)]) (dc_X1_mended 16 rfl) rfl ?_
        refine Sx.regKE2 (pc2 := 76) (L2 := fun (x2_76_1 : Int32) (h76_1 : e_H) => [none, some (.int a1), some (.int x2_76_1), none]) (st2 := fun (x2_76_1 : Int32) (h76_1 : e_H) => []) (h2 := fun (x2_76_1 : Int32) (h76_1 : e_H) => h76_1) ?_ (fun Q1 hK1 hE1 => ?_)
        · intro x2_76_1 h76_1
          show Sx K cX1_mended 76 [none, some (.int a1), some (.int x2_76_1), none] [] h76_1 _ _
          refine S_iload_n (dc_X1_mended 38 rfl) rfl ?_
          refine S_iconst_ (-1) (dc_X1_mended 39 rfl) rfl ?_
          refine S_icmp_ne 85 (dc_X1_mended 40 rfl) rfl (fun c78 => ?_) (fun c78 => ?_)
          · refine S_iconst_ (-1) (dc_X1_mended 43 rfl) rfl ?_
            exact S_iret (dc_X1_mended 44 rfl) hT rfl (e_rqI hr)
          · refine S_iload_n (dc_X1_mended 41 rfl) rfl ?_
            refine S_goto 86 (dc_X1_mended 42 rfl) rfl ?_
            exact S_iret (dc_X1_mended 44 rfl) hT rfl (e_rqI hr)
        · have hK1 : ∀ (x2_76_1 : Int32) (h76_1 : e_H), Sx K cX1_mended 76 [none, some (.int a1), some (.int x2_76_1), none] [] h76_1 (some (.ok (x2_76_1, h76_1))) Q1 := hK1
          have ih1 : ∀ (n : Nat) (x2_31 : Int32) (x3_31 : Int32) (h_31 : e_H), Sx K cX1_mended 31 [some (.ref a0), some (.int a1), some (.int x2_31), some (.int x3_31)] [] h_31 (lp_X1_mended_31 F a0 a1 n x2_31 x3_31 h_31) Q1 := by
            intro n
            induction n with
            | zero => intro x2_31 x3_31 h_31; exact Sx.none
            | succ n ih1 =>
              intro x2_31 x3_31 h_31
              rw [lp_X1_mended_31.eq_2]
              refine S_iload_n (dc_X1_mended 17 rfl) rfl ?_
              refine S_aload_n (dc_X1_mended 18 rfl) rfl ?_
              refine S_getA (dc_X1_mended 19 rfl) ho fl_X1_69_0_7 (fun _ _ => rfl) (fun x33 e33 => ?_)
              refine S_getI (dc_X1_mended 20 rfl) ho fl_X1_209_3_4 (fun _ _ => rfl) (fun x36 e36 => ?_)
              refine S_icmp_ge 76 (dc_X1_mended 21 rfl) rfl (fun c39 => ?_) (fun c39 => ?_)
              · refine Sx.cut [false, true, true, false] ?_
                exact hK1 x2_31 h_31
              · refine S_aload_n (dc_X1_mended 22 rfl) rfl ?_
                refine S_aload_n (dc_X1_mended 23 rfl) rfl ?_
                refine S_getA (dc_X1_mended 24 rfl) ho fl_X1_69_0_7 (fun _ _ => rfl) (fun x44 e44 => ?_)
                refine S_iload_n (dc_X1_mended 25 rfl) rfl ?_
                refine Sx.ask (fun _ i48 => ?_)
                refine S_rwA (d := k_d K - 1) (e_callV (b := x44) (As := [.int x3_31]) (rest := [.ref a0]) ok_X4_band rfl (Nat.le_of_ble_eq_true rfl) (dc_X1_mended 26 rfl) ho q1056 q1057 (show e_cl[3]? = some (RX4, TX4, 5) from rfl) (e_sel.of q1058) (e_is_of i48) rfl (Nat.le_of_ble_eq_true rfl)) (by omega) (fun _ _ e => ct_X4_band (by omega) e) (fun x48 h48 e48 => ?_)
                refine Sx.ask (fun _ i51 => ?_)
                refine S_roI (d := k_d K - 1) (e_callV (b := a0) (As := [.ref x48]) (rest := []) ok_X1_isSound rfl (Nat.le_of_ble_eq_true rfl) (dc_X1_mended 27 rfl) ho q1063 q1065 (show e_cl[0]? = some (RX1, TX1, 37) from rfl) (e_sel.of qs13) (e_is_of i51) rfl (Nat.le_of_ble_eq_true rfl)) (by omega) (fun _ e => ct_X1_isSound (by omega) e) (fun x51 e51 => ?_)
                refine Sx.regKE1 (pc2 := 70) (L2 := fun (x2_70_2 : Int32) => [some (.ref a0), some (.int a1), some (.int x2_70_2), some (.int x3_31)]) (st2 := fun (x2_70_2 : Int32) => []) (h2 := fun (x2_70_2 : Int32) => h48) ?_ (fun Q2 hK2 hE2 => ?_)
                · intro x2_70_2
                  show Sx K cX1_mended 70 [some (.ref a0), some (.int a1), some (.int x2_70_2), some (.int x3_31)] [] h48 _ _
                  refine S_iincN 1 (L' := fun x70 => [some (.ref a0), some (.int a1), some (.int x2_70_2), some (.int x70)]) (dc_X1_mended 36 rfl) rfl rfl (fun _ => rfl) (fun x70 n70 => ?_)
                  refine S_goto 31 (dc_X1_mended 37 rfl) rfl ?_
                  exact ih1 x2_70_2 x70 h48
                · have hK2 : ∀ (x2_70_2 : Int32), Sx K cX1_mended 70 [some (.ref a0), some (.int a1), some (.int x2_70_2), some (.int x3_31)] [] h48 (some (.ok x2_70_2)) Q2 := hK2
                  refine S_if_ne 60 (dc_X1_mended 28 rfl) rfl (fun c54 => ?_) (fun c54 => ?_)
                  · refine S_iload_n (dc_X1_mended 30 rfl) rfl ?_
                    refine S_iload_n (dc_X1_mended 31 rfl) rfl ?_
                    refine S_icmp_ne 67 (dc_X1_mended 32 rfl) rfl (fun c62 => ?_) (fun c62 => ?_)
                    · refine S_iincN 1 (L' := fun x67 => [some (.ref a0), some (.int a1), some (.int x67), some (.int x3_31)]) (dc_X1_mended 35 rfl) rfl rfl (fun _ => rfl) (fun x67 n67 => ?_)
                      exact hK2 x67
                    · refine S_iload_n (dc_X1_mended 33 rfl) rfl ?_
                      refine Sx.err hE2 ?_
                      refine Sx.err hE1 ?_
                      exact S_iret (dc_X1_mended 34 rfl) hT rfl (e_rqI hr)
                  · refine S_goto 70 (dc_X1_mended 29 rfl) rfl ?_
                    exact hK2 x2_31
          exact ih1 F 0 0 h
      · refine S_iconst_ (-1) (dc_X1_mended 11 rfl) rfl ?_
        exact S_iret (dc_X1_mended 12 rfl) hT rfl (e_rqI hr)
abbrev cX1_lay : ByteArray := prog_1_method_51_code
def yX1_lay : MethodName := ⟨"PegBands", "lay", "()I"⟩
def tb_X1_lay : List (Nat × Instr × Nat) := [(0, .aload_n 0, 1), (1, .getfield 69, 3), (4, .getfield 209, 3), (7, .ifCond .ne 5, 3), (10, .iconst (-1), 1), (11, .ireturn, 1), (12, .aload_n 0, 1), (13, .getfield 69, 3), (16, .invokevirtual 352, 3), (19, .ifCond .ne 6, 3), (22, .bipush 6, 2), (24, .ireturn, 1), (25, .aload_n 0, 1), (26, .getfield 69, 3), (29, .iconst (-1), 1), (30, .invokevirtual 361, 3), (33, .astore_n 1, 1), (34, .aload_n 0, 1), (35, .getfield 63, 3), (38, .aload_n 1, 1), (39, .iconst (-1), 1), (40, .invokevirtual 330, 3), (43, .istore_n 2, 1), (44, .iload_n 2, 1), (45, .ifCond .le 5, 3), (48, .iload_n 2, 1), (49, .ireturn, 1), (50, .aload_n 0, 1), (51, .getfield 63, 3), (54, .getfield 234, 3), (57, .bipush 8, 2), (59, .if_icmp .ne 6, 3), (62, .bipush 7, 2), (64, .ireturn, 1), (65, .aload_n 0, 1), (66, .invokevirtual 333, 3), (69, .aload_n 0, 1), (70, .getfield 63, 3), (73, .getfield 248, 3), (76, .aload_n 0, 1), (77, .getfield 63, 3), (80, .getfield 234, 3), (83, .aload_n 1, 1), (84, .aastore, 1), (85, .aload_n 0, 1), (86, .getfield 63, 3), (89, .dup, 1), (90, .getfield 234, 3), (93, .iconst 1, 1), (94, .iadd, 1), (95, .putfield 234, 3), (98, .iconst 0, 1), (99, .ireturn, 1)]
theorem tk_X1_lay : ∀ q ∈ tb_X1_lay, decode cX1_lay q.1 = .ok q.2 := by decide +kernel
theorem dc_X1_lay (k : Nat) {pc n : Nat} {i : Instr} (h : tb_X1_lay[k]? = some (pc, i, n)) : decode cX1_lay pc = .ok (i, n) := tk_X1_lay (pc, i, n) (List.mem_of_getElem? h)
abbrev mX1_lay : e_M := (yX1_lay, cX1_lay, 3, some (.int), [])
theorem ok_X1_lay : e_mok mX1_lay 0 := ⟨q1072, q108, by decide +kernel, fun sig h => by cases h; rfl⟩
def f_X1_lay (F : Nat) (h : e_H) (a0 : Nat) : Option (Int32 × e_H) :=
  Option.bind (e_fA h a0 0 7) (fun x1 =>
  Option.bind (e_fI h x1 3 4) (fun x4 =>
  if x4 = 0 then
    some ((-1), h)
  else
    Option.bind (e_fA h a0 0 7) (fun x13 =>
    Option.bind (e_is h x13 3) (fun _ =>
    Option.bind (f_X4_isClosed F h x13) (fun x16 =>
    if x16 = 0 then
      some (6, h)
    else
      Option.bind (e_fA h a0 0 7) (fun x26 =>
      Option.bind (e_is h x26 3) (fun _ =>
      e_b2 (f_X4_band F h x26 (-1)) (fun x30 h30 =>
      Option.bind (e_fA h30 a0 0 6) (fun x35 =>
      Option.bind (e_is h30 x35 2) (fun _ =>
      Option.bind (f_X3_why F h30 x35 x30 (-1)) (fun x40 =>
      if x40 ≤ 0 then
        Option.bind (e_fA h30 a0 0 6) (fun x51 =>
        Option.bind (e_fI h30 x51 2 4) (fun x54 =>
        if x54 = 8 then
          some (7, h30)
        else
          Option.bind (f_X1_keep h30 a0) (fun h66 =>
          Option.bind (e_fA h66 a0 0 6) (fun x70 =>
          Option.bind (e_fA h66 x70 2 0) (fun x73 =>
          Option.bind (e_fA h66 a0 0 6) (fun x77 =>
          Option.bind (e_fI h66 x77 2 4) (fun x80 =>
          Option.bind (e_wR h66 x73 4 x80 (some x30)) (fun h84 =>
          Option.bind (e_fA h84 a0 0 6) (fun x86 =>
          Option.bind (e_fI h84 x86 2 4) (fun x90 =>
          Option.bind (e_gI h84 x86 2 4 (x90 + 1)) (fun h95 =>
          some (0, h95))))))))))))
      else
        some (x40, h30))))))))))))
set_option maxHeartbeats 4000000 in
set_option maxRecDepth 100000 in
theorem ct_X1_lay {l : Launch} {D : e_D} {B : Heap} {F : Nat} {d : Nat} {h : e_H} {a0 : Nat} {v : Int32} {h1 : e_H} (hd : 8 ≤ d) (e : f_X1_lay F h a0 = some (v, h1)) : e_Run l D B d mX1_lay [.ref a0] h (.ok (some (.int v)), h1) := by
  refine e_start [some (.ref a0), none, none] (by decide) rfl rfl rfl (Nat.le_of_ble_eq_true rfl) (fun K hl0 hD0 hB0 hM hd0 hr => ?_)
  subst hl0 hD0 hB0 hd0
  have ho : (k_M K).1.cls = "PegBands" := by rw [hM]; rfl
  have hT : (k_M K).2.2.2.1 = some (.int) := by rw [hM]
  refine (show Sx K cX1_lay 0 [some (.ref a0), none, none] [] h (f_X1_lay F h a0) (fun w => w = (v, h1)) from ?_) _ e rfl
  clear e
  unfold f_X1_lay
  refine S_aload_n (dc_X1_lay 0 rfl) rfl ?_
  refine S_getA (dc_X1_lay 1 rfl) ho fl_X1_69_0_7 (fun _ _ => rfl) (fun x1 e1 => ?_)
  refine S_getI (dc_X1_lay 2 rfl) ho fl_X1_209_3_4 (fun _ _ => rfl) (fun x4 e4 => ?_)
  refine S_if_ne 12 (dc_X1_lay 3 rfl) rfl (fun c7 => ?_) (fun c7 => ?_)
  · refine S_aload_n (dc_X1_lay 6 rfl) rfl ?_
    refine S_getA (dc_X1_lay 7 rfl) ho fl_X1_69_0_7 (fun _ _ => rfl) (fun x13 e13 => ?_)
    refine Sx.ask (fun _ i16 => ?_)
    refine S_roI (d := k_d K - 1) (e_callV (b := x13) (As := []) (rest := []) ok_X4_isClosed rfl (Nat.le_of_ble_eq_true rfl) (dc_X1_lay 8 rfl) ho q1044 q1045 (show e_cl[3]? = some (RX4, TX4, 5) from rfl) (e_sel.of q1046) (e_is_of i16) rfl (Nat.le_of_ble_eq_true rfl)) (by omega) (fun _ e => ct_X4_isClosed (by omega) e) (fun x16 e16 => ?_)
    refine S_if_ne 25 (dc_X1_lay 9 rfl) rfl (fun c19 => ?_) (fun c19 => ?_)
    · refine S_aload_n (dc_X1_lay 12 rfl) rfl ?_
      refine S_getA (dc_X1_lay 13 rfl) ho fl_X1_69_0_7 (fun _ _ => rfl) (fun x26 e26 => ?_)
      refine S_iconst_ (-1) (dc_X1_lay 14 rfl) rfl ?_
      refine Sx.ask (fun _ i30 => ?_)
      refine S_rwA (d := k_d K - 1) (e_callV (b := x26) (As := [.int (-1)]) (rest := []) ok_X4_band rfl (Nat.le_of_ble_eq_true rfl) (dc_X1_lay 15 rfl) ho q1056 q1057 (show e_cl[3]? = some (RX4, TX4, 5) from rfl) (e_sel.of q1058) (e_is_of i30) rfl (Nat.le_of_ble_eq_true rfl)) (by omega) (fun _ _ e => ct_X4_band (by omega) e) (fun x30 h30 e30 => ?_)
      refine S_astore_n (L' := [some (.ref a0), some (.ref x30), none]) (dc_X1_lay 16 rfl) rfl ?_
      refine S_aload_n (dc_X1_lay 17 rfl) rfl ?_
      refine S_getA (dc_X1_lay 18 rfl) ho fl_X1_63_0_6 (fun _ _ => rfl) (fun x35 e35 => ?_)
      refine S_aload_n (dc_X1_lay 19 rfl) rfl ?_
      refine S_iconst_ (-1) (dc_X1_lay 20 rfl) rfl ?_
      refine Sx.ask (fun _ i40 => ?_)
      refine S_roI (d := k_d K - 1) (e_callV (b := x35) (As := [.ref x30, .int (-1)]) (rest := []) ok_X3_why rfl (Nat.le_of_ble_eq_true rfl) (dc_X1_lay 21 rfl) ho q971 q774 (show e_cl[2]? = some (RX3, TX3, 7) from rfl) (e_sel.of q775) (e_is_of i40) rfl (Nat.le_of_ble_eq_true rfl)) (by omega) (fun _ e => ct_X3_why (by omega) e) (fun x40 e40 => ?_)
      refine S_istore_n (L' := [some (.ref a0), some (.ref x30), some (.int x40)]) (dc_X1_lay 22 rfl) rfl ?_
      refine S_iload_n (dc_X1_lay 23 rfl) rfl ?_
      refine S_if_le 50 (dc_X1_lay 24 rfl) rfl (fun c45 => ?_) (fun c45 => ?_)
      · refine S_aload_n (dc_X1_lay 27 rfl) rfl ?_
        refine S_getA (dc_X1_lay 28 rfl) ho fl_X1_63_0_6 (fun _ _ => rfl) (fun x51 e51 => ?_)
        refine S_getI (dc_X1_lay 29 rfl) ho fl_X1_234_2_4 (fun _ _ => rfl) (fun x54 e54 => ?_)
        refine S_bipush_ 8 (dc_X1_lay 30 rfl) rfl ?_
        refine S_icmp_ne 65 (dc_X1_lay 31 rfl) rfl (fun c59 => ?_) (fun c59 => ?_)
        · refine S_aload_n (dc_X1_lay 34 rfl) rfl ?_
          refine S_rwV (d := k_d K - 1) (e_callV (b := a0) (As := []) (rest := []) ok_X1_keep rfl (Nat.le_of_ble_eq_true rfl) (dc_X1_lay 35 rfl) ho q972 q974 (show e_cl[0]? = some (RX1, TX1, 37) from rfl) (e_sel.of qs11) (e_fA_of e35).1 rfl (Nat.le_of_ble_eq_true rfl)) (by omega) (fun _ e => ct_X1_keep (by omega) e) (fun h66 e66 => ?_)
          refine S_aload_n (dc_X1_lay 36 rfl) rfl ?_
          refine S_getA (dc_X1_lay 37 rfl) ho fl_X1_63_0_6 (fun _ _ => rfl) (fun x70 e70 => ?_)
          refine S_getA (dc_X1_lay 38 rfl) ho fl_X1_248_2_0 (fun _ _ => rfl) (fun x73 e73 => ?_)
          refine S_aload_n (dc_X1_lay 39 rfl) rfl ?_
          refine S_getA (dc_X1_lay 40 rfl) ho fl_X1_63_0_6 (fun _ _ => rfl) (fun x77 e77 => ?_)
          refine S_getI (dc_X1_lay 41 rfl) ho fl_X1_234_2_4 (fun _ _ => rfl) (fun x80 e80 => ?_)
          refine S_aload_n (dc_X1_lay 42 rfl) rfl ?_
          refine S_aastV (t := 4) (dc_X1_lay 43 rfl) rfl (fun _ _ _ => rfl) (fun h84 e84 => ?_)
          refine S_aload_n (dc_X1_lay 44 rfl) rfl ?_
          refine S_getA (dc_X1_lay 45 rfl) ho fl_X1_63_0_6 (fun _ _ => rfl) (fun x86 e86 => ?_)
          refine S_dup (dc_X1_lay 46 rfl) rfl ?_
          refine S_getI (dc_X1_lay 47 rfl) ho fl_X1_234_2_4 (fun _ _ => rfl) (fun x90 e90 => ?_)
          refine S_iconst_ 1 (dc_X1_lay 48 rfl) rfl ?_
          refine S_iadd (dc_X1_lay 49 rfl) ?_
          refine S_putI (dc_X1_lay 50 rfl) ho fl_X1_234_2_4 (fun _ _ => rfl) (Or.inl rfl) rfl rfl (fun h95 e95 => ?_)
          refine S_iconst_ 0 (dc_X1_lay 51 rfl) rfl ?_
          exact S_iret (dc_X1_lay 52 rfl) hT rfl (e_rqI hr)
        · refine S_bipush_ 7 (dc_X1_lay 32 rfl) rfl ?_
          exact S_iret (dc_X1_lay 33 rfl) hT rfl (e_rqI hr)
      · refine S_iload_n (dc_X1_lay 25 rfl) rfl ?_
        exact S_iret (dc_X1_lay 26 rfl) hT rfl (e_rqI hr)
    · refine S_bipush_ 6 (dc_X1_lay 10 rfl) rfl ?_
      exact S_iret (dc_X1_lay 11 rfl) hT rfl (e_rqI hr)
  · refine S_iconst_ (-1) (dc_X1_lay 4 rfl) rfl ?_
    exact S_iret (dc_X1_lay 5 rfl) hT rfl (e_rqI hr)
abbrev cX1_put : ByteArray := prog_1_method_52_code
def yX1_put : MethodName := ⟨"PegBands", "put", "(I)V"⟩
def tb_X1_put : List (Nat × Instr × Nat) := [(0, .aload_n 0, 1), (1, .getfield 111, 3), (4, .aload_n 0, 1), (5, .getfield 367, 3), (8, .iload_n 1, 1), (9, .i2b, 1), (10, .bastore, 1), (11, .aload_n 0, 1), (12, .dup, 1), (13, .getfield 367, 3), (16, .iconst 1, 1), (17, .iadd, 1), (18, .putfield 367, 3), (21, .return_, 1)]
theorem tk_X1_put : ∀ q ∈ tb_X1_put, decode cX1_put q.1 = .ok q.2 := by decide +kernel
theorem dc_X1_put (k : Nat) {pc n : Nat} {i : Instr} (h : tb_X1_put[k]? = some (pc, i, n)) : decode cX1_put pc = .ok (i, n) := tk_X1_put (pc, i, n) (List.mem_of_getElem? h)
abbrev mX1_put : e_M := (yX1_put, cX1_put, 2, none, [])
theorem ok_X1_put : e_mok mX1_put 1 := ⟨q1084, q108, by decide +kernel, fun sig h => by cases h; rfl⟩
theorem fl_X1_367_0_21 : e_FL "PegBands" 367 0 21 := ⟨_, rfl, by decide, Or.inl q479⟩
def f_X1_put (h : e_H) (a0 : Nat) (a1 : Int32) : Option e_H :=
  Option.bind (e_fA h a0 0 20) (fun x1 =>
  Option.bind (e_fI h a0 0 21) (fun x5 =>
  Option.bind (e_wI h x1 1 x5 (a1.toInt8.toInt32).toInt8.toInt32) (fun h10 =>
  Option.bind (e_fI h10 a0 0 21) (fun x13 =>
  Option.bind (e_gI h10 a0 0 21 (x13 + 1)) (fun h18 =>
  some h18)))))
set_option maxHeartbeats 4000000 in
set_option maxRecDepth 100000 in
theorem ct_X1_put {l : Launch} {D : e_D} {B : Heap} {d : Nat} {h : e_H} {a0 : Nat} {a1 : Int32} {h1 : e_H} (hd : 1 ≤ d) (e : f_X1_put h a0 a1 = some h1) : e_Run l D B d mX1_put [.ref a0, .int a1] h (.ok none, h1) := by
  refine e_start [some (.ref a0), some (.int a1)] (by decide) rfl rfl rfl (Nat.le_of_ble_eq_true rfl) (fun K hl0 hD0 hB0 hM hd0 hr => ?_)
  subst hl0 hD0 hB0 hd0
  have ho : (k_M K).1.cls = "PegBands" := by rw [hM]; rfl
  have hT : (k_M K).2.2.2.1 = none := by rw [hM]
  refine (show Sx K cX1_put 0 [some (.ref a0), some (.int a1)] [] h (f_X1_put h a0 a1) (fun w => w = h1) from ?_) _ e rfl
  clear e
  unfold f_X1_put
  refine S_aload_n (dc_X1_put 0 rfl) rfl ?_
  refine S_getA (dc_X1_put 1 rfl) ho fl_X1_111_0_20 (fun _ _ => rfl) (fun x1 e1 => ?_)
  refine S_aload_n (dc_X1_put 2 rfl) rfl ?_
  refine S_getI (dc_X1_put 3 rfl) ho fl_X1_367_0_21 (fun _ _ => rfl) (fun x5 e5 => ?_)
  refine S_iload_n (dc_X1_put 4 rfl) rfl ?_
  refine S_i2b (dc_X1_put 5 rfl) ?_
  refine S_bast (dc_X1_put 6 rfl) (fun h10 e10 => ?_)
  refine S_aload_n (dc_X1_put 7 rfl) rfl ?_
  refine S_dup (dc_X1_put 8 rfl) rfl ?_
  refine S_getI (dc_X1_put 9 rfl) ho fl_X1_367_0_21 (fun _ _ => rfl) (fun x13 e13 => ?_)
  refine S_iconst_ 1 (dc_X1_put 10 rfl) rfl ?_
  refine S_iadd (dc_X1_put 11 rfl) ?_
  refine S_putI (dc_X1_put 12 rfl) ho fl_X1_367_0_21 (fun _ _ => rfl) (Or.inl rfl) rfl rfl (fun h18 e18 => ?_)
  exact S_vret (dc_X1_put 13 rfl) hT (fun q => by cases q; exact hr)
abbrev cX1_putNumber : ByteArray := prog_1_method_53_code
def yX1_putNumber : MethodName := ⟨"PegBands", "putNumber", "(I)V"⟩
def tb_X1_putNumber : List (Nat × Instr × Nat) := [(0, .aload_n 0, 1), (1, .bipush 32, 2), (3, .invokevirtual 370, 3), (6, .iload_n 1, 1), (7, .ifCond .ge 9, 3), (10, .aload_n 0, 1), (11, .bipush 45, 2), (13, .invokevirtual 370, 3), (16, .aload_n 0, 1), (17, .bipush 48, 2), (19, .iload_n 1, 1), (20, .invokestatic 167, 3), (23, .iadd, 1), (24, .invokevirtual 370, 3), (27, .return_, 1)]
theorem tk_X1_putNumber : ∀ q ∈ tb_X1_putNumber, decode cX1_putNumber q.1 = .ok q.2 := by decide +kernel
theorem dc_X1_putNumber (k : Nat) {pc n : Nat} {i : Instr} (h : tb_X1_putNumber[k]? = some (pc, i, n)) : decode cX1_putNumber pc = .ok (i, n) := tk_X1_putNumber (pc, i, n) (List.mem_of_getElem? h)
abbrev mX1_putNumber : e_M := (yX1_putNumber, cX1_putNumber, 2, none, [])
theorem ok_X1_putNumber : e_mok mX1_putNumber 1 := ⟨q1088, q108, by decide +kernel, fun sig h => by cases h; rfl⟩
def f_X1_putNumber (h : e_H) (a0 : Nat) (a1 : Int32) : Option e_H :=
  Option.bind (e_is h a0 0) (fun _ =>
  Option.bind (f_X1_put h a0 32) (fun h3 =>
  Option.bind (
      if 0 ≤ a1 then
        some h3
      else
        Option.bind (e_is h3 a0 0) (fun _ =>
        Option.bind (f_X1_put h3 a0 45) (fun h13 =>
        some h13))
    : Option (e_H)) (fun h16_1 =>
  Option.bind (e_is h16_1 a0 0) (fun _ =>
  Option.bind (f_X1_put h16_1 a0 (48 + (if 0 ≤ a1 then a1 else 0 - a1))) (fun h24 =>
  some h24)))))
set_option maxHeartbeats 4000000 in
set_option maxRecDepth 100000 in
theorem ct_X1_putNumber {l : Launch} {D : e_D} {B : Heap} {d : Nat} {h : e_H} {a0 : Nat} {a1 : Int32} {h1 : e_H} (hd : 2 ≤ d) (e : f_X1_putNumber h a0 a1 = some h1) : e_Run l D B d mX1_putNumber [.ref a0, .int a1] h (.ok none, h1) := by
  refine e_start [some (.ref a0), some (.int a1)] (by decide) rfl rfl rfl (Nat.le_of_ble_eq_true rfl) (fun K hl0 hD0 hB0 hM hd0 hr => ?_)
  subst hl0 hD0 hB0 hd0
  have ho : (k_M K).1.cls = "PegBands" := by rw [hM]; rfl
  have hT : (k_M K).2.2.2.1 = none := by rw [hM]
  refine (show Sx K cX1_putNumber 0 [some (.ref a0), some (.int a1)] [] h (f_X1_putNumber h a0 a1) (fun w => w = h1) from ?_) _ e rfl
  clear e
  unfold f_X1_putNumber
  refine S_aload_n (dc_X1_putNumber 0 rfl) rfl ?_
  refine S_bipush_ 32 (dc_X1_putNumber 1 rfl) rfl ?_
  refine Sx.ask (fun _ i3 => ?_)
  refine S_rwV (d := k_d K - 1) (e_callV (b := a0) (As := [.int 32]) (rest := []) ok_X1_put rfl (Nat.le_of_ble_eq_true rfl) (dc_X1_putNumber 2 rfl) ho q1081 q1083 (show e_cl[0]? = some (RX1, TX1, 37) from rfl) (e_sel.of qs15) (e_is_of i3) rfl (Nat.le_of_ble_eq_true rfl)) (by omega) (fun _ e => ct_X1_put (by omega) e) (fun h3 e3 => ?_)
  refine S_iload_n (dc_X1_putNumber 3 rfl) rfl ?_
  refine Sx.regK1 (pc2 := 16) (L2 := fun (h16_1 : e_H) => [some (.ref a0), some (.int a1)]) (st2 := fun (h16_1 : e_H) => []) (h2 := fun (h16_1 : e_H) => h16_1) ?_ (fun Q1 hK1 => ?_)
  · intro h16_1
    show Sx K cX1_putNumber 16 [some (.ref a0), some (.int a1)] [] h16_1 _ _
    refine S_aload_n (dc_X1_putNumber 8 rfl) rfl ?_
    refine S_bipush_ 48 (dc_X1_putNumber 9 rfl) rfl ?_
    refine S_iload_n (dc_X1_putNumber 10 rfl) rfl ?_
    refine S_mabs (dc_X1_putNumber 11 rfl) ho q1089 (by omega) (Nat.le_of_ble_eq_true rfl) ?_
    refine S_iadd (dc_X1_putNumber 12 rfl) ?_
    refine Sx.ask (fun _ i24 => ?_)
    refine S_rwV (d := k_d K - 1) (e_callV (b := a0) (As := [.int (48 + (if 0 ≤ a1 then a1 else 0 - a1))]) (rest := []) ok_X1_put rfl (Nat.le_of_ble_eq_true rfl) (dc_X1_putNumber 13 rfl) ho q1081 q1083 (show e_cl[0]? = some (RX1, TX1, 37) from rfl) (e_sel.of qs15) (e_is_of i24) rfl (Nat.le_of_ble_eq_true rfl)) (by omega) (fun _ e => ct_X1_put (by omega) e) (fun h24 e24 => ?_)
    exact S_vret (dc_X1_putNumber 14 rfl) hT (fun q => by cases q; exact hr)
  · have hK1 : ∀ (h16_1 : e_H), Sx K cX1_putNumber 16 [some (.ref a0), some (.int a1)] [] h16_1 (some h16_1) Q1 := hK1
    refine S_if_ge 16 (dc_X1_putNumber 4 rfl) rfl (fun c7 => ?_) (fun c7 => ?_)
    · exact hK1 h3
    · refine S_aload_n (dc_X1_putNumber 5 rfl) rfl ?_
      refine S_bipush_ 45 (dc_X1_putNumber 6 rfl) rfl ?_
      refine Sx.ask (fun _ i13 => ?_)
      refine S_rwV (d := k_d K - 1) (e_callV (b := a0) (As := [.int 45]) (rest := []) ok_X1_put rfl (Nat.le_of_ble_eq_true rfl) (dc_X1_putNumber 7 rfl) ho q1081 q1083 (show e_cl[0]? = some (RX1, TX1, 37) from rfl) (e_sel.of qs15) (e_is_of i13) rfl (Nat.le_of_ble_eq_true rfl)) (by omega) (fun _ e => ct_X1_put (by omega) e) (fun h13 e13 => ?_)
      exact hK1 h13
abbrev cX1_write_2 : ByteArray := prog_1_method_54_code
def yX1_write_2 : MethodName := ⟨"PegBands", "write", "(LPegBands$Band;IZ)V"⟩
def tb_X1_write_2 : List (Nat × Instr × Nat) := [(0, .aload_n 0, 1), (1, .iconst 0, 1), (2, .putfield 367, 3), (5, .aload_n 0, 1), (6, .bipush 97, 2), (8, .invokevirtual 370, 3), (11, .aload_n 0, 1), (12, .bipush 116, 2), (14, .invokevirtual 370, 3), (17, .aload_n 0, 1), (18, .aload_n 1, 1), (19, .getfield 273, 3), (22, .iload_n 2, 1), (23, .iaload, 1), (24, .invokevirtual 373, 3), (27, .aload_n 0, 1), (28, .aload_n 1, 1), (29, .getfield 270, 3), (32, .iload_n 2, 1), (33, .iaload, 1), (34, .invokevirtual 373, 3), (37, .aload_n 0, 1), (38, .bipush 59, 2), (40, .invokevirtual 370, 3), (43, .iload_n 2, 1), (44, .istore 4, 2), (46, .iconst 0, 1), (47, .istore 5, 2), (49, .iload 5, 2), (51, .aload_n 1, 1), (52, .getfield 251, 3), (55, .if_icmp .ge 90, 3), (58, .iload_n 3, 1), (59, .ifCond .eq 12, 3), (62, .aload_n 1, 1), (63, .iload 4, 2), (65, .invokevirtual 376, 3), (68, .goto 9, 3), (71, .aload_n 1, 1), (72, .iload 4, 2), (74, .invokevirtual 379, 3), (77, .istore 6, 2), (79, .aload_n 0, 1), (80, .bipush 98, 2), (82, .invokevirtual 370, 3), (85, .aload_n 0, 1), (86, .bipush 121, 2), (88, .invokevirtual 370, 3), (91, .aload_n 0, 1), (92, .aload_n 1, 1), (93, .getfield 273, 3), (96, .iload 6, 2), (98, .iaload, 1), (99, .aload_n 1, 1), (100, .getfield 273, 3), (103, .iload 4, 2), (105, .iaload, 1), (106, .isub, 1), (107, .invokevirtual 373, 3), (110, .aload_n 0, 1), (111, .aload_n 1, 1), (112, .getfield 270, 3), (115, .iload 6, 2), (117, .iaload, 1), (118, .aload_n 1, 1), (119, .getfield 270, 3), (122, .iload 4, 2), (124, .iaload, 1), (125, .isub, 1), (126, .invokevirtual 373, 3), (129, .aload_n 0, 1), (130, .bipush 59, 2), (132, .invokevirtual 370, 3), (135, .iload 6, 2), (137, .istore 4, 2), (139, .iinc 5 1, 3), (142, .goto (-93), 3), (145, .return_, 1)]
theorem tk_X1_write_2 : ∀ q ∈ tb_X1_write_2, decode cX1_write_2 q.1 = .ok q.2 := by decide +kernel
theorem dc_X1_write_2 (k : Nat) {pc n : Nat} {i : Instr} (h : tb_X1_write_2[k]? = some (pc, i, n)) : decode cX1_write_2 pc = .ok (i, n) := tk_X1_write_2 (pc, i, n) (List.mem_of_getElem? h)
abbrev mX1_write_2 : e_M := (yX1_write_2, cX1_write_2, 7, none, [])
theorem ok_X1_write_2 : e_mok mX1_write_2 3 := ⟨q1080, q108, by decide +kernel, fun sig h => by cases h; rfl⟩
def lp_X1_write_2_49 (F : Nat) (a0 : Nat) (a1 : Nat) (a3 : Int32) : Nat → Int32 → Int32 → e_H → Option (e_H)
  | 0, _, _, _ => none
  | n + 1, x4_49, x5_49, h_49 =>
    Option.bind (e_fI h_49 a1 6 2) (fun x52 =>
    if x52 ≤ x5_49 then
      some h_49
    else
      Option.bind (
          if a3 = 0 then
            Option.bind (f_X8_last h_49 a1 x4_49) (fun x74 =>
            some x74)
          else
            Option.bind (f_X8_next h_49 a1 x4_49) (fun x65 =>
            some x65)
        : Option (Int32)) (fun s77_2 =>
      Option.bind (e_is h_49 a0 0) (fun _ =>
      Option.bind (f_X1_put h_49 a0 98) (fun h82 =>
      Option.bind (e_is h82 a0 0) (fun _ =>
      Option.bind (f_X1_put h82 a0 121) (fun h88 =>
      Option.bind (e_fA h88 a1 6 0) (fun x93 =>
      Option.bind (e_aI h88 x93 0 s77_2) (fun x98 =>
      Option.bind (e_fA h88 a1 6 0) (fun x100 =>
      Option.bind (e_aI h88 x100 0 x4_49) (fun x105 =>
      Option.bind (e_is h88 a0 0) (fun _ =>
      Option.bind (f_X1_putNumber h88 a0 (x98 - x105)) (fun h107 =>
      Option.bind (e_fA h107 a1 6 1) (fun x112 =>
      Option.bind (e_aI h107 x112 0 s77_2) (fun x117 =>
      Option.bind (e_fA h107 a1 6 1) (fun x119 =>
      Option.bind (e_aI h107 x119 0 x4_49) (fun x124 =>
      Option.bind (e_is h107 a0 0) (fun _ =>
      Option.bind (f_X1_putNumber h107 a0 (x117 - x124)) (fun h126 =>
      Option.bind (e_is h126 a0 0) (fun _ =>
      Option.bind (f_X1_put h126 a0 59) (fun h132 =>
      Option.bind (some (x5_49 + 1)) (fun x139 =>
      lp_X1_write_2_49 F a0 a1 a3 n s77_2 x139 h132)))))))))))))))))))))
def f_X1_write_2 (F : Nat) (h : e_H) (a0 : Nat) (a1 : Nat) (a2 : Int32) (a3 : Int32) : Option e_H :=
  Option.bind (e_gI h a0 0 21 0) (fun h2 =>
  Option.bind (e_is h2 a0 0) (fun _ =>
  Option.bind (f_X1_put h2 a0 97) (fun h8 =>
  Option.bind (e_is h8 a0 0) (fun _ =>
  Option.bind (f_X1_put h8 a0 116) (fun h14 =>
  Option.bind (e_fA h14 a1 6 0) (fun x19 =>
  Option.bind (e_aI h14 x19 0 a2) (fun x23 =>
  Option.bind (e_is h14 a0 0) (fun _ =>
  Option.bind (f_X1_putNumber h14 a0 x23) (fun h24 =>
  Option.bind (e_fA h24 a1 6 1) (fun x29 =>
  Option.bind (e_aI h24 x29 0 a2) (fun x33 =>
  Option.bind (e_is h24 a0 0) (fun _ =>
  Option.bind (f_X1_putNumber h24 a0 x33) (fun h34 =>
  Option.bind (e_is h34 a0 0) (fun _ =>
  Option.bind (f_X1_put h34 a0 59) (fun h40 =>
  Option.bind (
      lp_X1_write_2_49 F a0 a1 a3 F a2 0 h40
    : Option (e_H)) (fun h145_1 =>
  some h145_1))))))))))))))))
set_option maxHeartbeats 4000000 in
set_option maxRecDepth 100000 in
theorem ct_X1_write_2 {l : Launch} {D : e_D} {B : Heap} {F : Nat} {d : Nat} {h : e_H} {a0 : Nat} {a1 : Nat} {a2 : Int32} {a3 : Int32} {h1 : e_H} (hd : 3 ≤ d) (e : f_X1_write_2 F h a0 a1 a2 a3 = some h1) : e_Run l D B d mX1_write_2 [.ref a0, .ref a1, .int a2, .int a3] h (.ok none, h1) := by
  refine e_start [some (.ref a0), some (.ref a1), some (.int a2), some (.int a3), none, none, none] (by decide) rfl rfl rfl (Nat.le_of_ble_eq_true rfl) (fun K hl0 hD0 hB0 hM hd0 hr => ?_)
  subst hl0 hD0 hB0 hd0
  have ho : (k_M K).1.cls = "PegBands" := by rw [hM]; rfl
  have hT : (k_M K).2.2.2.1 = none := by rw [hM]
  refine (show Sx K cX1_write_2 0 [some (.ref a0), some (.ref a1), some (.int a2), some (.int a3), none, none, none] [] h (f_X1_write_2 F h a0 a1 a2 a3) (fun w => w = h1) from ?_) _ e rfl
  clear e
  unfold f_X1_write_2
  refine S_aload_n (dc_X1_write_2 0 rfl) rfl ?_
  refine S_iconst_ 0 (dc_X1_write_2 1 rfl) rfl ?_
  refine S_putI (dc_X1_write_2 2 rfl) ho fl_X1_367_0_21 (fun _ _ => rfl) (Or.inl rfl) rfl rfl (fun h2 e2 => ?_)
  refine S_aload_n (dc_X1_write_2 3 rfl) rfl ?_
  refine S_bipush_ 97 (dc_X1_write_2 4 rfl) rfl ?_
  refine Sx.ask (fun _ i8 => ?_)
  refine S_rwV (d := k_d K - 1) (e_callV (b := a0) (As := [.int 97]) (rest := []) ok_X1_put rfl (Nat.le_of_ble_eq_true rfl) (dc_X1_write_2 5 rfl) ho q1081 q1083 (show e_cl[0]? = some (RX1, TX1, 37) from rfl) (e_sel.of qs15) (e_is_of i8) rfl (Nat.le_of_ble_eq_true rfl)) (by omega) (fun _ e => ct_X1_put (by omega) e) (fun h8 e8 => ?_)
  refine S_aload_n (dc_X1_write_2 6 rfl) rfl ?_
  refine S_bipush_ 116 (dc_X1_write_2 7 rfl) rfl ?_
  refine Sx.ask (fun _ i14 => ?_)
  refine S_rwV (d := k_d K - 1) (e_callV (b := a0) (As := [.int 116]) (rest := []) ok_X1_put rfl (Nat.le_of_ble_eq_true rfl) (dc_X1_write_2 8 rfl) ho q1081 q1083 (show e_cl[0]? = some (RX1, TX1, 37) from rfl) (e_sel.of qs15) (e_is_of i14) rfl (Nat.le_of_ble_eq_true rfl)) (by omega) (fun _ e => ct_X1_put (by omega) e) (fun h14 e14 => ?_)
  refine S_aload_n (dc_X1_write_2 9 rfl) rfl ?_
  refine S_aload_n (dc_X1_write_2 10 rfl) rfl ?_
  refine S_getA (dc_X1_write_2 11 rfl) ho fl_X1_273_6_0 (fun _ _ => rfl) (fun x19 e19 => ?_)
  refine S_iload_n (dc_X1_write_2 12 rfl) rfl ?_
  refine S_iald (dc_X1_write_2 13 rfl) (fun x23 e23 => ?_)
  refine Sx.ask (fun _ i24 => ?_)
  refine S_rwV (d := k_d K - 1) (e_callV (b := a0) (As := [.int x23]) (rest := []) ok_X1_putNumber rfl (Nat.le_of_ble_eq_true rfl) (dc_X1_write_2 14 rfl) ho q1085 q1087 (show e_cl[0]? = some (RX1, TX1, 37) from rfl) (e_sel.of qs16) (e_is_of i24) rfl (Nat.le_of_ble_eq_true rfl)) (by omega) (fun _ e => ct_X1_putNumber (by omega) e) (fun h24 e24 => ?_)
  refine S_aload_n (dc_X1_write_2 15 rfl) rfl ?_
  refine S_aload_n (dc_X1_write_2 16 rfl) rfl ?_
  refine S_getA (dc_X1_write_2 17 rfl) ho fl_X1_270_6_1 (fun _ _ => rfl) (fun x29 e29 => ?_)
  refine S_iload_n (dc_X1_write_2 18 rfl) rfl ?_
  refine S_iald (dc_X1_write_2 19 rfl) (fun x33 e33 => ?_)
  refine Sx.ask (fun _ i34 => ?_)
  refine S_rwV (d := k_d K - 1) (e_callV (b := a0) (As := [.int x33]) (rest := []) ok_X1_putNumber rfl (Nat.le_of_ble_eq_true rfl) (dc_X1_write_2 20 rfl) ho q1085 q1087 (show e_cl[0]? = some (RX1, TX1, 37) from rfl) (e_sel.of qs16) (e_is_of i34) rfl (Nat.le_of_ble_eq_true rfl)) (by omega) (fun _ e => ct_X1_putNumber (by omega) e) (fun h34 e34 => ?_)
  refine S_aload_n (dc_X1_write_2 21 rfl) rfl ?_
  refine S_bipush_ 59 (dc_X1_write_2 22 rfl) rfl ?_
  refine Sx.ask (fun _ i40 => ?_)
  refine S_rwV (d := k_d K - 1) (e_callV (b := a0) (As := [.int 59]) (rest := []) ok_X1_put rfl (Nat.le_of_ble_eq_true rfl) (dc_X1_write_2 23 rfl) ho q1081 q1083 (show e_cl[0]? = some (RX1, TX1, 37) from rfl) (e_sel.of qs15) (e_is_of i40) rfl (Nat.le_of_ble_eq_true rfl)) (by omega) (fun _ e => ct_X1_put (by omega) e) (fun h40 e40 => ?_)
  refine S_iload_n (dc_X1_write_2 24 rfl) rfl ?_
  refine S_istore (L' := [some (.ref a0), some (.ref a1), some (.int a2), some (.int a3), some (.int a2), none, none]) (dc_X1_write_2 25 rfl) rfl ?_
  refine S_iconst_ 0 (dc_X1_write_2 26 rfl) rfl ?_
  refine S_istore (L' := [some (.ref a0), some (.ref a1), some (.int a2), some (.int a3), some (.int a2), some (.int 0), none]) (dc_X1_write_2 27 rfl) rfl ?_
  refine Sx.regK1 (pc2 := 145) (L2 := fun (h145_1 : e_H) => [none, none, none, none, none, none, none]) (st2 := fun (h145_1 : e_H) => []) (h2 := fun (h145_1 : e_H) => h145_1) ?_ (fun Q1 hK1 => ?_)
  · intro h145_1
    show Sx K cX1_write_2 145 [none, none, none, none, none, none, none] [] h145_1 _ _
    exact S_vret (dc_X1_write_2 77 rfl) hT (fun q => by cases q; exact hr)
  · have hK1 : ∀ (h145_1 : e_H), Sx K cX1_write_2 145 [none, none, none, none, none, none, none] [] h145_1 (some h145_1) Q1 := hK1
    have ih1 : ∀ (n : Nat) (x4_49 : Int32) (x5_49 : Int32) (h_49 : e_H), Sx K cX1_write_2 49 [some (.ref a0), some (.ref a1), none, some (.int a3), some (.int x4_49), some (.int x5_49), none] [] h_49 (lp_X1_write_2_49 F a0 a1 a3 n x4_49 x5_49 h_49) Q1 := by
      intro n
      induction n with
      | zero => intro x4_49 x5_49 h_49; exact Sx.none
      | succ n ih1 =>
        intro x4_49 x5_49 h_49
        rw [lp_X1_write_2_49.eq_2]
        refine S_iload (dc_X1_write_2 28 rfl) rfl ?_
        refine S_aload_n (dc_X1_write_2 29 rfl) rfl ?_
        refine S_getI (dc_X1_write_2 30 rfl) ho fl_X1_251_6_2 (fun _ _ => rfl) (fun x52 e52 => ?_)
        refine S_icmp_ge 145 (dc_X1_write_2 31 rfl) rfl (fun c55 => ?_) (fun c55 => ?_)
        · refine Sx.cut [false, false, true, false, false, false, true] ?_
          exact hK1 h_49
        · refine S_iload_n (dc_X1_write_2 32 rfl) rfl ?_
          refine Sx.regK1 (pc2 := 77) (L2 := fun (s77_2 : Int32) => [some (.ref a0), some (.ref a1), none, some (.int a3), some (.int x4_49), some (.int x5_49), none]) (st2 := fun (s77_2 : Int32) => [.int s77_2]) (h2 := fun (s77_2 : Int32) => h_49) ?_ (fun Q2 hK2 => ?_)
          · intro s77_2
            show Sx K cX1_write_2 77 [some (.ref a0), some (.ref a1), none, some (.int a3), some (.int x4_49), some (.int x5_49), none] [.int s77_2] h_49 _ _
            refine S_istore (L' := [some (.ref a0), some (.ref a1), none, some (.int a3), some (.int x4_49), some (.int x5_49), some (.int s77_2)]) (dc_X1_write_2 41 rfl) rfl ?_
            refine S_aload_n (dc_X1_write_2 42 rfl) rfl ?_
            refine S_bipush_ 98 (dc_X1_write_2 43 rfl) rfl ?_
            refine Sx.ask (fun _ i82 => ?_)
            refine S_rwV (d := k_d K - 1) (e_callV (b := a0) (As := [.int 98]) (rest := []) ok_X1_put rfl (Nat.le_of_ble_eq_true rfl) (dc_X1_write_2 44 rfl) ho q1081 q1083 (show e_cl[0]? = some (RX1, TX1, 37) from rfl) (e_sel.of qs15) (e_is_of i82) rfl (Nat.le_of_ble_eq_true rfl)) (by omega) (fun _ e => ct_X1_put (by omega) e) (fun h82 e82 => ?_)
            refine S_aload_n (dc_X1_write_2 45 rfl) rfl ?_
            refine S_bipush_ 121 (dc_X1_write_2 46 rfl) rfl ?_
            refine Sx.ask (fun _ i88 => ?_)
            refine S_rwV (d := k_d K - 1) (e_callV (b := a0) (As := [.int 121]) (rest := []) ok_X1_put rfl (Nat.le_of_ble_eq_true rfl) (dc_X1_write_2 47 rfl) ho q1081 q1083 (show e_cl[0]? = some (RX1, TX1, 37) from rfl) (e_sel.of qs15) (e_is_of i88) rfl (Nat.le_of_ble_eq_true rfl)) (by omega) (fun _ e => ct_X1_put (by omega) e) (fun h88 e88 => ?_)
            refine S_aload_n (dc_X1_write_2 48 rfl) rfl ?_
            refine S_aload_n (dc_X1_write_2 49 rfl) rfl ?_
            refine S_getA (dc_X1_write_2 50 rfl) ho fl_X1_273_6_0 (fun _ _ => rfl) (fun x93 e93 => ?_)
            refine S_iload (dc_X1_write_2 51 rfl) rfl ?_
            refine S_iald (dc_X1_write_2 52 rfl) (fun x98 e98 => ?_)
            refine S_aload_n (dc_X1_write_2 53 rfl) rfl ?_
            refine S_getA (dc_X1_write_2 54 rfl) ho fl_X1_273_6_0 (fun _ _ => rfl) (fun x100 e100 => ?_)
            refine S_iload (dc_X1_write_2 55 rfl) rfl ?_
            refine S_iald (dc_X1_write_2 56 rfl) (fun x105 e105 => ?_)
            refine S_isub (dc_X1_write_2 57 rfl) ?_
            refine Sx.ask (fun _ i107 => ?_)
            refine S_rwV (d := k_d K - 1) (e_callV (b := a0) (As := [.int (x98 - x105)]) (rest := []) ok_X1_putNumber rfl (Nat.le_of_ble_eq_true rfl) (dc_X1_write_2 58 rfl) ho q1085 q1087 (show e_cl[0]? = some (RX1, TX1, 37) from rfl) (e_sel.of qs16) (e_is_of i107) rfl (Nat.le_of_ble_eq_true rfl)) (by omega) (fun _ e => ct_X1_putNumber (by omega) e) (fun h107 e107 => ?_)
            refine S_aload_n (dc_X1_write_2 59 rfl) rfl ?_
            refine S_aload_n (dc_X1_write_2 60 rfl) rfl ?_
            refine S_getA (dc_X1_write_2 61 rfl) ho fl_X1_270_6_1 (fun _ _ => rfl) (fun x112 e112 => ?_)
            refine S_iload (dc_X1_write_2 62 rfl) rfl ?_
            refine S_iald (dc_X1_write_2 63 rfl) (fun x117 e117 => ?_)
            refine S_aload_n (dc_X1_write_2 64 rfl) rfl ?_
            refine S_getA (dc_X1_write_2 65 rfl) ho fl_X1_270_6_1 (fun _ _ => rfl) (fun x119 e119 => ?_)
            refine S_iload (dc_X1_write_2 66 rfl) rfl ?_
            refine S_iald (dc_X1_write_2 67 rfl) (fun x124 e124 => ?_)
            refine S_isub (dc_X1_write_2 68 rfl) ?_
            refine Sx.ask (fun _ i126 => ?_)
            refine S_rwV (d := k_d K - 1) (e_callV (b := a0) (As := [.int (x117 - x124)]) (rest := []) ok_X1_putNumber rfl (Nat.le_of_ble_eq_true rfl) (dc_X1_write_2 69 rfl) ho q1085 q1087 (show e_cl[0]? = some (RX1, TX1, 37) from rfl) (e_sel.of qs16) (e_is_of i126) rfl (Nat.le_of_ble_eq_true rfl)) (by omega) (fun _ e => ct_X1_putNumber (by omega) e) (fun h126 e126 => ?_)
            refine S_aload_n (dc_X1_write_2 70 rfl) rfl ?_
            refine S_bipush_ 59 (dc_X1_write_2 71 rfl) rfl ?_
            refine Sx.ask (fun _ i132 => ?_)
            refine S_rwV (d := k_d K - 1) (e_callV (b := a0) (As := [.int 59]) (rest := []) ok_X1_put rfl (Nat.le_of_ble_eq_true rfl) (dc_X1_write_2 72 rfl) ho q1081 q1083 (show e_cl[0]? = some (RX1, TX1, 37) from rfl) (e_sel.of qs15) (e_is_of i132) rfl (Nat.le_of_ble_eq_true rfl)) (by omega) (fun _ e => ct_X1_put (by omega) e) (fun h132 e132 => ?_)
            refine S_iload (dc_X1_write_2 73 rfl) rfl ?_
            refine S_istore (L' := [some (.ref a0), some (.ref a1), none, some (.int a3), some (.int s77_2), some (.int x5_49), some (.int s77_2)]) (dc_X1_write_2 74 rfl) rfl ?_
            refine S_iincN 1 (L' := fun x139 => [some (.ref a0), some (.ref a1), none, some (.int a3), some (.int s77_2), some (.int x139), some (.int s77_2)]) (dc_X1_write_2 75 rfl) rfl rfl (fun _ => rfl) (fun x139 n139 => ?_)
            refine S_goto 49 (dc_X1_write_2 76 rfl) rfl ?_
            refine Sx.cut [true, true, true, true, true, true, false] ?_
            exact ih1 s77_2 x139 h132
          · have hK2 : ∀ (s77_2 : Int32), Sx K cX1_write_2 77 [some (.ref a0), some (.ref a1), none, some (.int a3), some (.int x4_49), some (.int x5_49), none] [.int s77_2] h_49 (some s77_2) Q2 := hK2
            refine S_if_eq 71 (dc_X1_write_2 33 rfl) rfl (fun c59 => ?_) (fun c59 => ?_)
            · refine S_aload_n (dc_X1_write_2 38 rfl) rfl ?_
              refine S_iload (dc_X1_write_2 39 rfl) rfl ?_
              refine S_roI (d := k_d K - 1) (e_callV (b := a1) (As := [.int x4_49]) (rest := []) ok_X8_last rfl (Nat.le_of_ble_eq_true rfl) (dc_X1_write_2 40 rfl) ho q1093 q795 (show e_cl[6]? = some (RX8, TX8, 4) from rfl) (e_sel.of q796) (e_fI_of e52).1 rfl (Nat.le_of_ble_eq_true rfl)) (by omega) (fun _ e => ct_X8_last (by omega) e) (fun x74 e74 => ?_)
              exact hK2 x74
            · refine S_aload_n (dc_X1_write_2 34 rfl) rfl ?_
              refine S_iload (dc_X1_write_2 35 rfl) rfl ?_
              refine S_roI (d := k_d K - 1) (e_callV (b := a1) (As := [.int x4_49]) (rest := []) ok_X8_next rfl (Nat.le_of_ble_eq_true rfl) (dc_X1_write_2 36 rfl) ho q1092 q799 (show e_cl[6]? = some (RX8, TX8, 4) from rfl) (e_sel.of q800) (e_fI_of e52).1 rfl (Nat.le_of_ble_eq_true rfl)) (by omega) (fun _ e => ct_X8_next (by omega) e) (fun x65 e65 => ?_)
              refine S_goto 77 (dc_X1_write_2 37 rfl) rfl ?_
              exact hK2 x65
    refine Sx.cut [true, true, false, true, true, true, true] ?_
    exact ih1 F a2 0 h40
abbrev cX1_write : ByteArray := prog_1_method_55_code
def yX1_write : MethodName := ⟨"PegBands", "write", "(I)I"⟩
def tb_X1_write : List (Nat × Instr × Nat) := [(0, .aload_n 0, 1), (1, .iload_n 1, 1), (2, .invokevirtual 241, 3), (5, .ifCond .ne 5, 3), (8, .iconst (-1), 1), (9, .ireturn, 1), (10, .aload_n 0, 1), (11, .getfield 63, 3), (14, .getfield 248, 3), (17, .iload_n 1, 1), (18, .aaload, 1), (19, .astore_n 2, 1), (20, .iconst 0, 1), (21, .istore_n 3, 1), (22, .ldc_w 285, 3), (25, .istore 4, 2), (27, .iconst 0, 1), (28, .istore 5, 2), (30, .iload 5, 2), (32, .iconst 2, 1), (33, .aload_n 2, 1), (34, .getfield 251, 3), (37, .imul, 1), (38, .if_icmp .ge 51, 3), (41, .aload_n 0, 1), (42, .aload_n 2, 1), (43, .iload 5, 2), (45, .iconst 2, 1), (46, .idiv, 1), (47, .iload 5, 2), (49, .iconst 2, 1), (50, .irem, 1), (51, .ifCond .ne 7, 3), (54, .iconst 1, 1), (55, .goto 4, 3), (58, .iconst 0, 1), (59, .invokevirtual 382, 3), (62, .aload_n 0, 1), (63, .getfield 367, 3), (66, .iload 4, 2), (68, .if_icmp .lt 6, 3), (71, .goto 12, 3), (74, .aload_n 0, 1), (75, .getfield 367, 3), (78, .istore 4, 2), (80, .iload 5, 2), (82, .istore_n 3, 1), (83, .iinc 5 1, 3), (86, .goto (-56), 3), (89, .aload_n 0, 1), (90, .aload_n 2, 1), (91, .iload_n 3, 1), (92, .iconst 2, 1), (93, .idiv, 1), (94, .iload_n 3, 1), (95, .iconst 2, 1), (96, .irem, 1), (97, .ifCond .ne 7, 3), (100, .iconst 1, 1), (101, .goto 4, 3), (104, .iconst 0, 1), (105, .invokevirtual 382, 3), (108, .aload_n 0, 1), (109, .getfield 367, 3), (112, .ireturn, 1)]
theorem tk_X1_write : ∀ q ∈ tb_X1_write, decode cX1_write q.1 = .ok q.2 := by decide +kernel
theorem dc_X1_write (k : Nat) {pc n : Nat} {i : Instr} (h : tb_X1_write[k]? = some (pc, i, n)) : decode cX1_write pc = .ok (i, n) := tk_X1_write (pc, i, n) (List.mem_of_getElem? h)
abbrev mX1_write : e_M := (yX1_write, cX1_write, 6, some (.int), [])
theorem ok_X1_write : e_mok mX1_write 1 := ⟨q1076, q108, by decide +kernel, fun sig h => by cases h; rfl⟩
def lp_X1_write_30 (F : Nat) (a0 : Nat) (x18 : Nat) : Nat → Int32 → Int32 → Int32 → e_H → Option ((Int32 × e_H))
  | 0, _, _, _, _ => none
  | n + 1, x3_30, x4_30, x5_30, h_30 =>
    Option.bind (e_fI h_30 x18 6 2) (fun x34 =>
    if (2 * x34) ≤ x5_30 then
      some (x3_30, h_30)
    else
      Option.bind (
          if (x5_30 - x5_30 / 2 * 2) = 0 then
            some 1
          else
            some 0
        : Option (Int32)) (fun s59_2 =>
      Option.bind (e_is h_30 a0 0) (fun _ =>
      Option.bind (f_X1_write_2 F h_30 a0 x18 (x5_30 / 2) s59_2) (fun h59 =>
      Option.bind (e_fI h59 a0 0 21) (fun x63 =>
      Option.bind (
          if x63 < x4_30 then
            Option.bind (e_fI h59 a0 0 21) (fun x75 =>
            some (x5_30, x75))
          else
            some (x3_30, x4_30)
        : Option ((Int32 × Int32))) (e_u2 (fun x3_83_3 x4_83_3 =>
      Option.bind (some (x5_30 + 1)) (fun x83 =>
      lp_X1_write_30 F a0 x18 n x3_83_3 x4_83_3 x83 h59))))))))
def f_X1_write (F : Nat) (h : e_H) (a0 : Nat) (a1 : Int32) : Option (Int32 × e_H) :=
  Option.bind (e_is h a0 0) (fun _ =>
  Option.bind (f_X1_isBand h a0 a1) (fun x2 =>
  if x2 = 0 then
    some ((-1), h)
  else
    Option.bind (e_fA h a0 0 6) (fun x11 =>
    Option.bind (e_fA h x11 2 0) (fun x14 =>
    Option.bind (e_aA h x14 4 a1) (fun x18 =>
    Option.bind (
        lp_X1_write_30 F a0 x18 F 0 1000000000 0 h
      : Option ((Int32 × e_H))) (e_u2 (fun x3_89_1 h89_1 =>
    Option.bind (
        if (x3_89_1 - x3_89_1 / 2 * 2) = 0 then
          some 1
        else
          some 0
      : Option (Int32)) (fun s105_4 =>
    Option.bind (e_is h89_1 a0 0) (fun _ =>
    Option.bind (f_X1_write_2 F h89_1 a0 x18 (x3_89_1 / 2) s105_4) (fun h105 =>
    Option.bind (e_fI h105 a0 0 21) (fun x109 =>
    some (x109, h105))))))))))))
set_option maxHeartbeats 4000000 in
set_option maxRecDepth 100000 in
theorem ct_X1_write {l : Launch} {D : e_D} {B : Heap} {F : Nat} {d : Nat} {h : e_H} {a0 : Nat} {a1 : Int32} {v : Int32} {h1 : e_H} (hd : 4 ≤ d) (e : f_X1_write F h a0 a1 = some (v, h1)) : e_Run l D B d mX1_write [.ref a0, .int a1] h (.ok (some (.int v)), h1) := by
  refine e_start [some (.ref a0), some (.int a1), none, none, none, none] (by decide) rfl rfl rfl (Nat.le_of_ble_eq_true rfl) (fun K hl0 hD0 hB0 hM hd0 hr => ?_)
  subst hl0 hD0 hB0 hd0
  have ho : (k_M K).1.cls = "PegBands" := by rw [hM]; rfl
  have hT : (k_M K).2.2.2.1 = some (.int) := by rw [hM]
  refine (show Sx K cX1_write 0 [some (.ref a0), some (.int a1), none, none, none, none] [] h (f_X1_write F h a0 a1) (fun w => w = (v, h1)) from ?_) _ e rfl
  clear e
  unfold f_X1_write
  refine S_aload_n (dc_X1_write 0 rfl) rfl ?_
  refine S_iload_n (dc_X1_write 1 rfl) rfl ?_
  refine Sx.ask (fun _ i2 => ?_)
  refine S_roI (d := k_d K - 1) (e_callV (b := a0) (As := [.int a1]) (rest := []) ok_X1_isBand rfl (Nat.le_of_ble_eq_true rfl) (dc_X1_write 2 rfl) ho q859 q861 (show e_cl[0]? = some (RX1, TX1, 37) from rfl) (e_sel.of qs7) (e_is_of i2) rfl (Nat.le_of_ble_eq_true rfl)) (by omega) (fun _ e => ct_X1_isBand (by omega) e) (fun x2 e2 => ?_)
  refine S_if_ne 10 (dc_X1_write 3 rfl) rfl (fun c5 => ?_) (fun c5 => ?_)
  · refine S_aload_n (dc_X1_write 6 rfl) rfl ?_
    refine S_getA (dc_X1_write 7 rfl) ho fl_X1_63_0_6 (fun _ _ => rfl) (fun x11 e11 => ?_)
    refine S_getA (dc_X1_write 8 rfl) ho fl_X1_248_2_0 (fun _ _ => rfl) (fun x14 e14 => ?_)
    refine S_iload_n (dc_X1_write 9 rfl) rfl ?_
    refine S_aaldA4 (dc_X1_write 10 rfl) (fun x18 e18 => ?_)
    refine S_astore_n (L' := [some (.ref a0), some (.int a1), some (.ref x18), none, none, none]) (dc_X1_write 11 rfl) rfl ?_
    refine S_iconst_ 0 (dc_X1_write 12 rfl) rfl ?_
    refine S_istore_n (L' := [some (.ref a0), some (.int a1), some (.ref x18), some (.int 0), none, none]) (dc_X1_write 13 rfl) rfl ?_
    refine S_ldcw 1000000000 (dc_X1_write 14 rfl) ho q907 ?_
    refine S_istore (L' := [some (.ref a0), some (.int a1), some (.ref x18), some (.int 0), some (.int 1000000000), none]) (dc_X1_write 15 rfl) rfl ?_
    refine S_iconst_ 0 (dc_X1_write 16 rfl) rfl ?_
    refine S_istore (L' := [some (.ref a0), some (.int a1), some (.ref x18), some (.int 0), some (.int 1000000000), some (.int 0)]) (dc_X1_write 17 rfl) rfl ?_
    refine Sx.regK2 (pc2 := 89) (L2 := fun (x3_89_1 : Int32) (h89_1 : e_H) => [some (.ref a0), none, some (.ref x18), some (.int x3_89_1), none, none]) (st2 := fun (x3_89_1 : Int32) (h89_1 : e_H) => []) (h2 := fun (x3_89_1 : Int32) (h89_1 : e_H) => h89_1) ?_ (fun Q1 hK1 => ?_)
    · intro x3_89_1 h89_1
      show Sx K cX1_write 89 [some (.ref a0), none, some (.ref x18), some (.int x3_89_1), none, none] [] h89_1 _ _
      refine S_aload_n (dc_X1_write 49 rfl) rfl ?_
      refine S_aload_n (dc_X1_write 50 rfl) rfl ?_
      refine S_iload_n (dc_X1_write 51 rfl) rfl ?_
      refine S_iconst_ 2 (dc_X1_write 52 rfl) rfl ?_
      refine S_idiv (dc_X1_write 53 rfl) (by decide) ?_
      refine S_iload_n (dc_X1_write 54 rfl) rfl ?_
      refine S_iconst_ 2 (dc_X1_write 55 rfl) rfl ?_
      refine S_irem (dc_X1_write 56 rfl) (by decide) ?_
      refine Sx.regK1 (pc2 := 105) (L2 := fun (s105_4 : Int32) => [some (.ref a0), none, none, none, none, none]) (st2 := fun (s105_4 : Int32) => [.int s105_4, .int (x3_89_1 / 2), .ref x18, .ref a0]) (h2 := fun (s105_4 : Int32) => h89_1) ?_ (fun Q4 hK4 => ?_)
      · intro s105_4
        show Sx K cX1_write 105 [some (.ref a0), none, none, none, none, none] [.int s105_4, .int (x3_89_1 / 2), .ref x18, .ref a0] h89_1 _ _
        refine Sx.ask (fun _ i105 => ?_)
        refine S_rwV (d := k_d K - 1) (e_callV (b := a0) (As := [.ref x18, .int (x3_89_1 / 2), .int s105_4]) (rest := []) ok_X1_write_2 rfl (Nat.le_of_ble_eq_true rfl) (dc_X1_write 61 rfl) ho q1077 q1079 (show e_cl[0]? = some (RX1, TX1, 37) from rfl) (e_sel.of qs14) (e_is_of i105) rfl (Nat.le_of_ble_eq_true rfl)) (by omega) (fun _ e => ct_X1_write_2 (by omega) e) (fun h105 e105 => ?_)
        refine S_aload_n (dc_X1_write 62 rfl) rfl ?_
        refine S_getI (dc_X1_write 63 rfl) ho fl_X1_367_0_21 (fun _ _ => rfl) (fun x109 e109 => ?_)
        exact S_iret (dc_X1_write 64 rfl) hT rfl (e_rqI hr)
      · have hK4 : ∀ (s105_4 : Int32), Sx K cX1_write 105 [some (.ref a0), none, none, none, none, none] [.int s105_4, .int (x3_89_1 / 2), .ref x18, .ref a0] h89_1 (some s105_4) Q4 := hK4
        refine S_if_ne 104 (dc_X1_write 57 rfl) rfl (fun c97 => ?_) (fun c97 => ?_)
        · refine S_iconst_ 0 (dc_X1_write 60 rfl) rfl ?_
          refine Sx.cut [true, true, false, false, true, true] ?_
          exact hK4 0
        · refine S_iconst_ 1 (dc_X1_write 58 rfl) rfl ?_
          refine S_goto 105 (dc_X1_write 59 rfl) rfl ?_
          refine Sx.cut [true, true, false, false, true, true] ?_
          exact hK4 1
    · have hK1 : ∀ (x3_89_1 : Int32) (h89_1 : e_H), Sx K cX1_write 89 [some (.ref a0), none, some (.ref x18), some (.int x3_89_1), none, none] [] h89_1 (some (x3_89_1, h89_1)) Q1 := hK1
      have ih1 : ∀ (n : Nat) (x3_30 : Int32) (x4_30 : Int32) (x5_30 : Int32) (h_30 : e_H), Sx K cX1_write 30 [some (.ref a0), none, some (.ref x18), some (.int x3_30), some (.int x4_30), some (.int x5_30)] [] h_30 (lp_X1_write_30 F a0 x18 n x3_30 x4_30 x5_30 h_30) Q1 := by
        intro n
        induction n with
        | zero => intro x3_30 x4_30 x5_30 h_30; exact Sx.none
        | succ n ih1 =>
          intro x3_30 x4_30 x5_30 h_30
          rw [lp_X1_write_30.eq_2]
          refine S_iload (dc_X1_write 18 rfl) rfl ?_
          refine S_iconst_ 2 (dc_X1_write 19 rfl) rfl ?_
          refine S_aload_n (dc_X1_write 20 rfl) rfl ?_
          refine S_getI (dc_X1_write 21 rfl) ho fl_X1_251_6_2 (fun _ _ => rfl) (fun x34 e34 => ?_)
          refine S_imul (dc_X1_write 22 rfl) ?_
          refine S_icmp_ge 89 (dc_X1_write 23 rfl) rfl (fun c38 => ?_) (fun c38 => ?_)
          · refine Sx.cut [true, true, true, true, false, false] ?_
            exact hK1 x3_30 h_30
          · refine S_aload_n (dc_X1_write 24 rfl) rfl ?_
            refine S_aload_n (dc_X1_write 25 rfl) rfl ?_
            refine S_iload (dc_X1_write 26 rfl) rfl ?_
            refine S_iconst_ 2 (dc_X1_write 27 rfl) rfl ?_
            refine S_idiv (dc_X1_write 28 rfl) (by decide) ?_
            refine S_iload (dc_X1_write 29 rfl) rfl ?_
            refine S_iconst_ 2 (dc_X1_write 30 rfl) rfl ?_
            refine S_irem (dc_X1_write 31 rfl) (by decide) ?_
            refine Sx.regK1 (pc2 := 59) (L2 := fun (s59_2 : Int32) => [some (.ref a0), none, some (.ref x18), some (.int x3_30), some (.int x4_30), some (.int x5_30)]) (st2 := fun (s59_2 : Int32) => [.int s59_2, .int (x5_30 / 2), .ref x18, .ref a0]) (h2 := fun (s59_2 : Int32) => h_30) ?_ (fun Q2 hK2 => ?_)
            · intro s59_2
              show Sx K cX1_write 59 [some (.ref a0), none, some (.ref x18), some (.int x3_30), some (.int x4_30), some (.int x5_30)] [.int s59_2, .int (x5_30 / 2), .ref x18, .ref a0] h_30 _ _
              refine Sx.ask (fun _ i59 => ?_)
              refine S_rwV (d := k_d K - 1) (e_callV (b := a0) (As := [.ref x18, .int (x5_30 / 2), .int s59_2]) (rest := []) ok_X1_write_2 rfl (Nat.le_of_ble_eq_true rfl) (dc_X1_write 36 rfl) ho q1077 q1079 (show e_cl[0]? = some (RX1, TX1, 37) from rfl) (e_sel.of qs14) (e_is_of i59) rfl (Nat.le_of_ble_eq_true rfl)) (by omega) (fun _ e => ct_X1_write_2 (by omega) e) (fun h59 e59 => ?_)
              refine S_aload_n (dc_X1_write 37 rfl) rfl ?_
              refine S_getI (dc_X1_write 38 rfl) ho fl_X1_367_0_21 (fun _ _ => rfl) (fun x63 e63 => ?_)
              refine S_iload (dc_X1_write 39 rfl) rfl ?_
              refine Sx.regK2 (pc2 := 83) (L2 := fun (x3_83_3 : Int32) (x4_83_3 : Int32) => [some (.ref a0), none, some (.ref x18), some (.int x3_83_3), some (.int x4_83_3), some (.int x5_30)]) (st2 := fun (x3_83_3 : Int32) (x4_83_3 : Int32) => []) (h2 := fun (x3_83_3 : Int32) (x4_83_3 : Int32) => h59) ?_ (fun Q3 hK3 => ?_)
              · intro x3_83_3 x4_83_3
                show Sx K cX1_write 83 [some (.ref a0), none, some (.ref x18), some (.int x3_83_3), some (.int x4_83_3), some (.int x5_30)] [] h59 _ _
                refine S_iincN 1 (L' := fun x83 => [some (.ref a0), none, some (.ref x18), some (.int x3_83_3), some (.int x4_83_3), some (.int x83)]) (dc_X1_write 47 rfl) rfl rfl (fun _ => rfl) (fun x83 n83 => ?_)
                refine S_goto 30 (dc_X1_write 48 rfl) rfl ?_
                exact ih1 x3_83_3 x4_83_3 x83 h59
              · have hK3 : ∀ (x3_83_3 : Int32) (x4_83_3 : Int32), Sx K cX1_write 83 [some (.ref a0), none, some (.ref x18), some (.int x3_83_3), some (.int x4_83_3), some (.int x5_30)] [] h59 (some (x3_83_3, x4_83_3)) Q3 := hK3
                refine S_icmp_lt 74 (dc_X1_write 40 rfl) rfl (fun c68 => ?_) (fun c68 => ?_)
                · refine S_aload_n (dc_X1_write 42 rfl) rfl ?_
                  refine S_getI (dc_X1_write 43 rfl) ho fl_X1_367_0_21 (fun _ _ => rfl) (fun x75 e75 => ?_)
                  refine S_istore (L' := [some (.ref a0), none, some (.ref x18), some (.int x3_30), some (.int x75), some (.int x5_30)]) (dc_X1_write 44 rfl) rfl ?_
                  refine S_iload (dc_X1_write 45 rfl) rfl ?_
                  refine S_istore_n (L' := [some (.ref a0), none, some (.ref x18), some (.int x5_30), some (.int x75), some (.int x5_30)]) (dc_X1_write 46 rfl) rfl ?_
                  exact hK3 x5_30 x75
                · refine S_goto 83 (dc_X1_write 41 rfl) rfl ?_
                  exact hK3 x3_30 x4_30
            · have hK2 : ∀ (s59_2 : Int32), Sx K cX1_write 59 [some (.ref a0), none, some (.ref x18), some (.int x3_30), some (.int x4_30), some (.int x5_30)] [.int s59_2, .int (x5_30 / 2), .ref x18, .ref a0] h_30 (some s59_2) Q2 := hK2
              refine S_if_ne 58 (dc_X1_write 32 rfl) rfl (fun c51 => ?_) (fun c51 => ?_)
              · refine S_iconst_ 0 (dc_X1_write 35 rfl) rfl ?_
                exact hK2 0
              · refine S_iconst_ 1 (dc_X1_write 33 rfl) rfl ?_
                refine S_goto 59 (dc_X1_write 34 rfl) rfl ?_
                exact hK2 1
      refine Sx.cut [true, false, true, true, true, true] ?_
      exact ih1 F 0 1000000000 0 h
  · refine S_iconst_ (-1) (dc_X1_write 4 rfl) rfl ?_
    exact S_iret (dc_X1_write 5 rfl) hT rfl (e_rqI hr)
abbrev cX1_byteAt : ByteArray := prog_1_method_56_code
def yX1_byteAt : MethodName := ⟨"PegBands", "byteAt", "(I)I"⟩
def tb_X1_byteAt : List (Nat × Instr × Nat) := [(0, .iload_n 1, 1), (1, .iconst 0, 1), (2, .aload_n 0, 1), (3, .getfield 367, 3), (6, .iconst 1, 1), (7, .isub, 1), (8, .invokestatic 187, 3), (11, .ifCond .eq 12, 3), (14, .aload_n 0, 1), (15, .getfield 111, 3), (18, .iload_n 1, 1), (19, .baload, 1), (20, .goto 4, 3), (23, .iconst (-1), 1), (24, .ireturn, 1)]
theorem tk_X1_byteAt : ∀ q ∈ tb_X1_byteAt, decode cX1_byteAt q.1 = .ok q.2 := by decide +kernel
theorem dc_X1_byteAt (k : Nat) {pc n : Nat} {i : Instr} (h : tb_X1_byteAt[k]? = some (pc, i, n)) : decode cX1_byteAt pc = .ok (i, n) := tk_X1_byteAt (pc, i, n) (List.mem_of_getElem? h)
abbrev mX1_byteAt : e_M := (yX1_byteAt, cX1_byteAt, 2, some (.int), [])
theorem ok_X1_byteAt : e_mok mX1_byteAt 1 := ⟨q1097, q108, by decide +kernel, fun sig h => by cases h; rfl⟩
def f_X1_byteAt (h : e_H) (a0 : Nat) (a1 : Int32) : Option Int32 :=
  Option.bind (e_fI h a0 0 21) (fun x3 =>
  Option.bind (f_X1_isIn a1 0 (x3 - 1)) (fun x8 =>
  if x8 = 0 then
    some (-1)
  else
    Option.bind (e_fA h a0 0 20) (fun x15 =>
    Option.bind (e_aI h x15 1 a1) (fun x19 =>
    some x19))))
set_option maxHeartbeats 4000000 in
set_option maxRecDepth 100000 in
theorem ct_X1_byteAt {l : Launch} {D : e_D} {B : Heap} {d : Nat} {h : e_H} {a0 : Nat} {a1 : Int32} {v : Int32} (hd : 2 ≤ d) (e : f_X1_byteAt h a0 a1 = some v) : e_Run l D B d mX1_byteAt [.ref a0, .int a1] h (.ok (some (.int v)), h) := by
  refine e_start [some (.ref a0), some (.int a1)] (by decide) rfl rfl rfl (Nat.le_of_ble_eq_true rfl) (fun K hl0 hD0 hB0 hM hd0 hr => ?_)
  subst hl0 hD0 hB0 hd0
  have ho : (k_M K).1.cls = "PegBands" := by rw [hM]; rfl
  have hT : (k_M K).2.2.2.1 = some (.int) := by rw [hM]
  refine (show Sx K cX1_byteAt 0 [some (.ref a0), some (.int a1)] [] h (f_X1_byteAt h a0 a1) (fun w => w = v) from ?_) _ e rfl
  clear e
  unfold f_X1_byteAt
  refine S_iload_n (dc_X1_byteAt 0 rfl) rfl ?_
  refine S_iconst_ 0 (dc_X1_byteAt 1 rfl) rfl ?_
  refine S_aload_n (dc_X1_byteAt 2 rfl) rfl ?_
  refine S_getI (dc_X1_byteAt 3 rfl) ho fl_X1_367_0_21 (fun _ _ => rfl) (fun x3 e3 => ?_)
  refine S_iconst_ 1 (dc_X1_byteAt 4 rfl) rfl ?_
  refine S_isub (dc_X1_byteAt 5 rfl) ?_
  refine S_roI (d := k_d K - 1) (e_callS (As := [.int a1, .int 0, .int (x3 - 1)]) (rest := []) ok_X1_isIn rfl (Nat.le_of_ble_eq_true rfl) (dc_X1_byteAt 6 rfl) ho q825 q616 rfl (Nat.le_of_ble_eq_true rfl)) (by omega) (fun _ e => ct_X1_isIn (by omega) e) (fun x8 e8 => ?_)
  refine S_if_eq 23 (dc_X1_byteAt 7 rfl) rfl (fun c11 => ?_) (fun c11 => ?_)
  · refine S_iconst_ (-1) (dc_X1_byteAt 13 rfl) rfl ?_
    exact S_iret (dc_X1_byteAt 14 rfl) hT rfl (fun q => by cases q; exact hr)
  · refine S_aload_n (dc_X1_byteAt 8 rfl) rfl ?_
    refine S_getA (dc_X1_byteAt 9 rfl) ho fl_X1_111_0_20 (fun _ _ => rfl) (fun x15 e15 => ?_)
    refine S_iload_n (dc_X1_byteAt 10 rfl) rfl ?_
    refine S_bald (dc_X1_byteAt 11 rfl) (fun x19 e19 => ?_)
    refine S_goto 24 (dc_X1_byteAt 12 rfl) rfl ?_
    exact S_iret (dc_X1_byteAt 14 rfl) hT rfl (fun q => by cases q; exact hr)
abbrev cX1_canSeek : ByteArray := prog_1_method_60_code
def yX1_canSeek : MethodName := ⟨"PegBands", "canSeek", "(II)Z"⟩
def tb_X1_canSeek : List (Nat × Instr × Nat) := [(0, .aload_n 0, 1), (1, .getfield 63, 3), (4, .getfield 401, 3), (7, .ifCond .le 29, 3), (10, .iload_n 1, 1), (11, .iconst 0, 1), (12, .sipush 999, 3), (15, .invokestatic 187, 3), (18, .ifCond .eq 18, 3), (21, .iload_n 2, 1), (22, .iconst 0, 1), (23, .sipush 999, 3), (26, .invokestatic 187, 3), (29, .ifCond .eq 7, 3), (32, .iconst 1, 1), (33, .goto 4, 3), (36, .iconst 0, 1), (37, .ireturn, 1)]
theorem tk_X1_canSeek : ∀ q ∈ tb_X1_canSeek, decode cX1_canSeek q.1 = .ok q.2 := by decide +kernel
theorem dc_X1_canSeek (k : Nat) {pc n : Nat} {i : Instr} (h : tb_X1_canSeek[k]? = some (pc, i, n)) : decode cX1_canSeek pc = .ok (i, n) := tk_X1_canSeek (pc, i, n) (List.mem_of_getElem? h)
abbrev mX1_canSeek : e_M := (yX1_canSeek, cX1_canSeek, 3, some (.boolean), [])
theorem ok_X1_canSeek : e_mok mX1_canSeek 2 := ⟨q1105, q108, by decide +kernel, fun sig h => by cases h; rfl⟩
theorem fl_X1_401_2_2 : e_FL "PegBands" 401 2 2 := ⟨_, rfl, by decide, Or.inr (Or.inr (Or.inl ⟨_, q251⟩))⟩
def f_X1_canSeek (h : e_H) (a0 : Nat) (a1 : Int32) (a2 : Int32) : Option Int32 :=
  Option.bind (e_fA h a0 0 6) (fun x1 =>
  Option.bind (e_fI h x1 2 2) (fun x4 =>
  if x4 ≤ 0 then
    some 0
  else
    Option.bind (f_X1_isIn a1 0 999) (fun x15 =>
    if x15 = 0 then
      some 0
    else
      Option.bind (f_X1_isIn a2 0 999) (fun x26 =>
      if x26 = 0 then
        some 0
      else
        some 1))))
set_option maxHeartbeats 4000000 in
set_option maxRecDepth 100000 in
theorem ct_X1_canSeek {l : Launch} {D : e_D} {B : Heap} {d : Nat} {h : e_H} {a0 : Nat} {a1 : Int32} {a2 : Int32} {v : Int32} (hd : 2 ≤ d) (e : f_X1_canSeek h a0 a1 a2 = some v) : e_Run l D B d mX1_canSeek [.ref a0, .int a1, .int a2] h (.ok (some (.int v)), h) := by
  refine e_start [some (.ref a0), some (.int a1), some (.int a2)] (by decide) rfl rfl rfl (Nat.le_of_ble_eq_true rfl) (fun K hl0 hD0 hB0 hM hd0 hr => ?_)
  subst hl0 hD0 hB0 hd0
  have ho : (k_M K).1.cls = "PegBands" := by rw [hM]; rfl
  have hT : (k_M K).2.2.2.1 = some (.boolean) := by rw [hM]
  refine (show Sx K cX1_canSeek 0 [some (.ref a0), some (.int a1), some (.int a2)] [] h (f_X1_canSeek h a0 a1 a2) (fun w => w = v) from ?_) _ e rfl
  clear e
  unfold f_X1_canSeek
  refine S_aload_n (dc_X1_canSeek 0 rfl) rfl ?_
  refine S_getA (dc_X1_canSeek 1 rfl) ho fl_X1_63_0_6 (fun _ _ => rfl) (fun x1 e1 => ?_)
  refine S_getI (dc_X1_canSeek 2 rfl) ho fl_X1_401_2_2 (fun _ _ => rfl) (fun x4 e4 => ?_)
  refine S_if_le 36 (dc_X1_canSeek 3 rfl) rfl (fun c7 => ?_) (fun c7 => ?_)
  · refine S_iconst_ 0 (dc_X1_canSeek 16 rfl) rfl ?_
    exact S_iret (dc_X1_canSeek 17 rfl) hT rfl (fun q => by cases q; exact hr)
  · refine S_iload_n (dc_X1_canSeek 4 rfl) rfl ?_
    refine S_iconst_ 0 (dc_X1_canSeek 5 rfl) rfl ?_
    refine S_sipush_ 999 (dc_X1_canSeek 6 rfl) rfl ?_
    refine S_roI (d := k_d K - 1) (e_callS (As := [.int a1, .int 0, .int 999]) (rest := []) ok_X1_isIn rfl (Nat.le_of_ble_eq_true rfl) (dc_X1_canSeek 7 rfl) ho q825 q616 rfl (Nat.le_of_ble_eq_true rfl)) (by omega) (fun _ e => ct_X1_isIn (by omega) e) (fun x15 e15 => ?_)
    refine S_if_eq 36 (dc_X1_canSeek 8 rfl) rfl (fun c18 => ?_) (fun c18 => ?_)
    · refine S_iconst_ 0 (dc_X1_canSeek 16 rfl) rfl ?_
      exact S_iret (dc_X1_canSeek 17 rfl) hT rfl (fun q => by cases q; exact hr)
    · refine S_iload_n (dc_X1_canSeek 9 rfl) rfl ?_
      refine S_iconst_ 0 (dc_X1_canSeek 10 rfl) rfl ?_
      refine S_sipush_ 999 (dc_X1_canSeek 11 rfl) rfl ?_
      refine S_roI (d := k_d K - 1) (e_callS (As := [.int a2, .int 0, .int 999]) (rest := []) ok_X1_isIn rfl (Nat.le_of_ble_eq_true rfl) (dc_X1_canSeek 12 rfl) ho q825 q616 rfl (Nat.le_of_ble_eq_true rfl)) (by omega) (fun _ e => ct_X1_isIn (by omega) e) (fun x26 e26 => ?_)
      refine S_if_eq 36 (dc_X1_canSeek 13 rfl) rfl (fun c29 => ?_) (fun c29 => ?_)
      · refine S_iconst_ 0 (dc_X1_canSeek 16 rfl) rfl ?_
        exact S_iret (dc_X1_canSeek 17 rfl) hT rfl (fun q => by cases q; exact hr)
      · refine S_iconst_ 1 (dc_X1_canSeek 14 rfl) rfl ?_
        refine S_goto 37 (dc_X1_canSeek 15 rfl) rfl ?_
        exact S_iret (dc_X1_canSeek 17 rfl) hT rfl (fun q => by cases q; exact hr)
abbrev cX1_isFree : ByteArray := prog_1_method_58_code
def yX1_isFree : MethodName := ⟨"PegBands", "isFree", "(I)Z"⟩
def tb_X1_isFree : List (Nat × Instr × Nat) := [(0, .aload_n 0, 1), (1, .getfield 63, 3), (4, .iload_n 1, 1), (5, .bipush 10, 2), (7, .irem, 1), (8, .iload_n 1, 1), (9, .bipush 10, 2), (11, .idiv, 1), (12, .invokevirtual 356, 3), (15, .ireturn, 1)]
theorem tk_X1_isFree : ∀ q ∈ tb_X1_isFree, decode cX1_isFree q.1 = .ok q.2 := by decide +kernel
theorem dc_X1_isFree (k : Nat) {pc n : Nat} {i : Instr} (h : tb_X1_isFree[k]? = some (pc, i, n)) : decode cX1_isFree pc = .ok (i, n) := tk_X1_isFree (pc, i, n) (List.mem_of_getElem? h)
abbrev mX1_isFree : e_M := (yX1_isFree, cX1_isFree, 2, some (.boolean), [])
theorem ok_X1_isFree : e_mok mX1_isFree 1 := ⟨q1113, q108, by decide +kernel, fun sig h => by cases h; rfl⟩
def f_X1_isFree (h : e_H) (a0 : Nat) (a1 : Int32) : Option Int32 :=
  Option.bind (e_fA h a0 0 6) (fun x1 =>
  Option.bind (e_is h x1 2) (fun _ =>
  Option.bind (f_X3_isPeg h x1 (a1 - a1 / 10 * 10) (a1 / 10)) (fun x12 =>
  if x12 = 0 ∨ x12 = 1 then some x12 else none)))
set_option maxHeartbeats 4000000 in
set_option maxRecDepth 100000 in
theorem ct_X1_isFree {l : Launch} {D : e_D} {B : Heap} {d : Nat} {h : e_H} {a0 : Nat} {a1 : Int32} {v : Int32} (hd : 4 ≤ d) (e : f_X1_isFree h a0 a1 = some v) : e_Run l D B d mX1_isFree [.ref a0, .int a1] h (.ok (some (.int v)), h) := by
  refine e_start [some (.ref a0), some (.int a1)] (by decide) rfl rfl rfl (Nat.le_of_ble_eq_true rfl) (fun K hl0 hD0 hB0 hM hd0 hr => ?_)
  subst hl0 hD0 hB0 hd0
  have ho : (k_M K).1.cls = "PegBands" := by rw [hM]; rfl
  have hT : (k_M K).2.2.2.1 = some (.boolean) := by rw [hM]
  refine (show Sx K cX1_isFree 0 [some (.ref a0), some (.int a1)] [] h (f_X1_isFree h a0 a1) (fun w => w = v) from ?_) _ e rfl
  clear e
  unfold f_X1_isFree
  refine S_aload_n (dc_X1_isFree 0 rfl) rfl ?_
  refine S_getA (dc_X1_isFree 1 rfl) ho fl_X1_63_0_6 (fun _ _ => rfl) (fun x1 e1 => ?_)
  refine S_iload_n (dc_X1_isFree 2 rfl) rfl ?_
  refine S_bipush_ 10 (dc_X1_isFree 3 rfl) rfl ?_
  refine S_irem (dc_X1_isFree 4 rfl) (by decide) ?_
  refine S_iload_n (dc_X1_isFree 5 rfl) rfl ?_
  refine S_bipush_ 10 (dc_X1_isFree 6 rfl) rfl ?_
  refine S_idiv (dc_X1_isFree 7 rfl) (by decide) ?_
  refine Sx.ask (fun _ i12 => ?_)
  refine S_roI (d := k_d K - 1) (e_callV (b := x1) (As := [.int (a1 - a1 / 10 * 10), .int (a1 / 10)]) (rest := []) ok_X3_isPeg rfl (Nat.le_of_ble_eq_true rfl) (dc_X1_isFree 8 rfl) ho q1067 q778 (show e_cl[2]? = some (RX3, TX3, 7) from rfl) (e_sel.of q779) (e_is_of i12) rfl (Nat.le_of_ble_eq_true rfl)) (by omega) (fun _ e => ct_X3_isPeg (by omega) e) (fun x12 e12 => ?_)
  refine Sx.cond (fun c15 => ?_)
  exact S_iret (dc_X1_isFree 9 rfl) hT (e_narZ c15).1 (fun q => by cases q; exact hr)
abbrev cX1_three : ByteArray := prog_1_method_57_code
def yX1_three : MethodName := ⟨"PegBands", "three", "(III)V"⟩
def tb_X1_three : List (Nat × Instr × Nat) := [(0, .aload_n 0, 1), (1, .getfield 117, 3), (4, .iconst 0, 1), (5, .putfield 251, 3), (8, .aload_n 0, 1), (9, .getfield 117, 3), (12, .iload_n 1, 1), (13, .bipush 10, 2), (15, .irem, 1), (16, .iload_n 1, 1), (17, .bipush 10, 2), (19, .idiv, 1), (20, .invokevirtual 311, 3), (23, .aload_n 0, 1), (24, .getfield 117, 3), (27, .iload_n 2, 1), (28, .bipush 10, 2), (30, .irem, 1), (31, .iload_n 2, 1), (32, .bipush 10, 2), (34, .idiv, 1), (35, .invokevirtual 311, 3), (38, .aload_n 0, 1), (39, .getfield 117, 3), (42, .iload_n 3, 1), (43, .bipush 10, 2), (45, .irem, 1), (46, .iload_n 3, 1), (47, .bipush 10, 2), (49, .idiv, 1), (50, .invokevirtual 311, 3), (53, .return_, 1)]
theorem tk_X1_three : ∀ q ∈ tb_X1_three, decode cX1_three q.1 = .ok q.2 := by decide +kernel
theorem dc_X1_three (k : Nat) {pc n : Nat} {i : Instr} (h : tb_X1_three[k]? = some (pc, i, n)) : decode cX1_three pc = .ok (i, n) := tk_X1_three (pc, i, n) (List.mem_of_getElem? h)
abbrev mX1_three : e_M := (yX1_three, cX1_three, 4, none, [])
theorem ok_X1_three : e_mok mX1_three 3 := ⟨q1117, q108, by decide +kernel, fun sig h => by cases h; rfl⟩
def f_X1_three (h : e_H) (a0 : Nat) (a1 : Int32) (a2 : Int32) (a3 : Int32) : Option e_H :=
  Option.bind (e_fA h a0 0 22) (fun x1 =>
  Option.bind (e_gI h x1 6 2 0) (fun h5 =>
  Option.bind (e_fA h5 a0 0 22) (fun x9 =>
  Option.bind (e_is h5 x9 6) (fun _ =>
  Option.bind (f_X8_add h5 x9 (a1 - a1 / 10 * 10) (a1 / 10)) (fun h20 =>
  Option.bind (e_fA h20 a0 0 22) (fun x24 =>
  Option.bind (e_is h20 x24 6) (fun _ =>
  Option.bind (f_X8_add h20 x24 (a2 - a2 / 10 * 10) (a2 / 10)) (fun h35 =>
  Option.bind (e_fA h35 a0 0 22) (fun x39 =>
  Option.bind (e_is h35 x39 6) (fun _ =>
  Option.bind (f_X8_add h35 x39 (a3 - a3 / 10 * 10) (a3 / 10)) (fun h50 =>
  some h50)))))))))))
set_option maxHeartbeats 4000000 in
set_option maxRecDepth 100000 in
theorem ct_X1_three {l : Launch} {D : e_D} {B : Heap} {d : Nat} {h : e_H} {a0 : Nat} {a1 : Int32} {a2 : Int32} {a3 : Int32} {h1 : e_H} (hd : 2 ≤ d) (e : f_X1_three h a0 a1 a2 a3 = some h1) : e_Run l D B d mX1_three [.ref a0, .int a1, .int a2, .int a3] h (.ok none, h1) := by
  refine e_start [some (.ref a0), some (.int a1), some (.int a2), some (.int a3)] (by decide) rfl rfl rfl (Nat.le_of_ble_eq_true rfl) (fun K hl0 hD0 hB0 hM hd0 hr => ?_)
  subst hl0 hD0 hB0 hd0
  have ho : (k_M K).1.cls = "PegBands" := by rw [hM]; rfl
  have hT : (k_M K).2.2.2.1 = none := by rw [hM]
  refine (show Sx K cX1_three 0 [some (.ref a0), some (.int a1), some (.int a2), some (.int a3)] [] h (f_X1_three h a0 a1 a2 a3) (fun w => w = h1) from ?_) _ e rfl
  clear e
  unfold f_X1_three
  refine S_aload_n (dc_X1_three 0 rfl) rfl ?_
  refine S_getA (dc_X1_three 1 rfl) ho fl_X1_117_0_22 (fun _ _ => rfl) (fun x1 e1 => ?_)
  refine S_iconst_ 0 (dc_X1_three 2 rfl) rfl ?_
  refine S_putI (dc_X1_three 3 rfl) ho fl_X1_251_6_2 (fun _ _ => rfl) (Or.inl rfl) rfl rfl (fun h5 e5 => ?_)
  refine S_aload_n (dc_X1_three 4 rfl) rfl ?_
  refine S_getA (dc_X1_three 5 rfl) ho fl_X1_117_0_22 (fun _ _ => rfl) (fun x9 e9 => ?_)
  refine S_iload_n (dc_X1_three 6 rfl) rfl ?_
  refine S_bipush_ 10 (dc_X1_three 7 rfl) rfl ?_
  refine S_irem (dc_X1_three 8 rfl) (by decide) ?_
  refine S_iload_n (dc_X1_three 9 rfl) rfl ?_
  refine S_bipush_ 10 (dc_X1_three 10 rfl) rfl ?_
  refine S_idiv (dc_X1_three 11 rfl) (by decide) ?_
  refine Sx.ask (fun _ i20 => ?_)
  refine S_rwV (d := k_d K - 1) (e_callV (b := x9) (As := [.int (a1 - a1 / 10 * 10), .int (a1 / 10)]) (rest := []) ok_X8_add rfl (Nat.le_of_ble_eq_true rfl) (dc_X1_three 12 rfl) ho q927 q770 (show e_cl[6]? = some (RX8, TX8, 4) from rfl) (e_sel.of q771) (e_is_of i20) rfl (Nat.le_of_ble_eq_true rfl)) (by omega) (fun _ e => ct_X8_add (by omega) e) (fun h20 e20 => ?_)
  refine S_aload_n (dc_X1_three 13 rfl) rfl ?_
  refine S_getA (dc_X1_three 14 rfl) ho fl_X1_117_0_22 (fun _ _ => rfl) (fun x24 e24 => ?_)
  refine S_iload_n (dc_X1_three 15 rfl) rfl ?_
  refine S_bipush_ 10 (dc_X1_three 16 rfl) rfl ?_
  refine S_irem (dc_X1_three 17 rfl) (by decide) ?_
  refine S_iload_n (dc_X1_three 18 rfl) rfl ?_
  refine S_bipush_ 10 (dc_X1_three 19 rfl) rfl ?_
  refine S_idiv (dc_X1_three 20 rfl) (by decide) ?_
  refine Sx.ask (fun _ i35 => ?_)
  refine S_rwV (d := k_d K - 1) (e_callV (b := x24) (As := [.int (a2 - a2 / 10 * 10), .int (a2 / 10)]) (rest := []) ok_X8_add rfl (Nat.le_of_ble_eq_true rfl) (dc_X1_three 21 rfl) ho q927 q770 (show e_cl[6]? = some (RX8, TX8, 4) from rfl) (e_sel.of q771) (e_is_of i35) rfl (Nat.le_of_ble_eq_true rfl)) (by omega) (fun _ e => ct_X8_add (by omega) e) (fun h35 e35 => ?_)
  refine S_aload_n (dc_X1_three 22 rfl) rfl ?_
  refine S_getA (dc_X1_three 23 rfl) ho fl_X1_117_0_22 (fun _ _ => rfl) (fun x39 e39 => ?_)
  refine S_iload_n (dc_X1_three 24 rfl) rfl ?_
  refine S_bipush_ 10 (dc_X1_three 25 rfl) rfl ?_
  refine S_irem (dc_X1_three 26 rfl) (by decide) ?_
  refine S_iload_n (dc_X1_three 27 rfl) rfl ?_
  refine S_bipush_ 10 (dc_X1_three 28 rfl) rfl ?_
  refine S_idiv (dc_X1_three 29 rfl) (by decide) ?_
  refine Sx.ask (fun _ i50 => ?_)
  refine S_rwV (d := k_d K - 1) (e_callV (b := x39) (As := [.int (a3 - a3 / 10 * 10), .int (a3 / 10)]) (rest := []) ok_X8_add rfl (Nat.le_of_ble_eq_true rfl) (dc_X1_three 30 rfl) ho q927 q770 (show e_cl[6]? = some (RX8, TX8, 4) from rfl) (e_sel.of q771) (e_is_of i50) rfl (Nat.le_of_ble_eq_true rfl)) (by omega) (fun _ e => ct_X8_add (by omega) e) (fun h50 e50 => ?_)
  exact S_vret (dc_X1_three 31 rfl) hT (fun q => by cases q; exact hr)
abbrev cX1_seek : ByteArray := prog_1_method_59_code
def yX1_seek : MethodName := ⟨"PegBands", "seek", "(III)I"⟩
def tb_X1_seek : List (Nat × Instr × Nat) := [(0, .iconst 0, 1), (1, .istore 4, 2), (3, .aload_n 0, 1), (4, .iconst (-1), 1), (5, .putfield 386, 3), (8, .aload_n 0, 1), (9, .iconst (-1), 1), (10, .putfield 389, 3), (13, .bipush 10, 2), (15, .aload_n 0, 1), (16, .getfield 63, 3), (19, .getfield 392, 3), (22, .imul, 1), (23, .istore 5, 2), (25, .iconst 0, 1), (26, .istore 6, 2), (28, .iload 6, 2), (30, .iload 5, 2), (32, .if_icmp .ge 189, 3), (35, .aload_n 0, 1), (36, .iload 6, 2), (38, .invokevirtual 395, 3), (41, .ifCond .ne 6, 3), (44, .goto 171, 3), (47, .iload 6, 2), (49, .iconst 1, 1), (50, .iadd, 1), (51, .istore 7, 2), (53, .iload 7, 2), (55, .iload 5, 2), (57, .if_icmp .ge 158, 3), (60, .aload_n 0, 1), (61, .iload 7, 2), (63, .invokevirtual 395, 3), (66, .ifCond .ne 6, 3), (69, .goto 140, 3), (72, .iload 7, 2), (74, .iconst 1, 1), (75, .iadd, 1), (76, .istore 8, 2), (78, .iload 8, 2), (80, .iload 5, 2), (82, .if_icmp .ge 127, 3), (85, .aload_n 0, 1), (86, .iload 8, 2), (88, .invokevirtual 395, 3), (91, .ifCond .ne 6, 3), (94, .goto 109, 3), (97, .aload_n 0, 1), (98, .iload 6, 2), (100, .iload 7, 2), (102, .iload 8, 2), (104, .invokevirtual 398, 3), (107, .aload_n 0, 1), (108, .getfield 117, 3), (111, .invokevirtual 252, 3), (114, .invokestatic 167, 3), (117, .istore 9, 2), (119, .iload 9, 2), (121, .ifCond .eq 82, 3), (124, .aload_n 0, 1), (125, .getfield 117, 3), (128, .invokevirtual 255, 3), (131, .iload_n 1, 1), (132, .if_icmp .ne 71, 3), (135, .aload_n 0, 1), (136, .getfield 117, 3), (139, .invokevirtual 257, 3), (142, .iload_n 2, 1), (143, .if_icmp .eq 6, 3), (146, .goto 57, 3), (149, .aload_n 0, 1), (150, .getfield 386, 3), (153, .iconst (-1), 1), (154, .if_icmp .eq 12, 3), (157, .iload 9, 2), (159, .aload_n 0, 1), (160, .getfield 386, 3), (163, .if_icmp .ge 9, 3), (166, .aload_n 0, 1), (167, .iload 9, 2), (169, .putfield 386, 3), (172, .iload 4, 2), (174, .iload_n 3, 1), (175, .if_icmp .ne 25, 3), (178, .aload_n 0, 1), (179, .sipush 10000, 3), (182, .iload 6, 2), (184, .imul, 1), (185, .bipush 100, 2), (187, .iload 7, 2), (189, .imul, 1), (190, .iadd, 1), (191, .iload 8, 2), (193, .iadd, 1), (194, .putfield 389, 3), (197, .iload 4, 2), (199, .ireturn, 1), (200, .iinc 4 1, 3), (203, .iinc 8 1, 3), (206, .goto (-128), 3), (209, .iinc 7 1, 3), (212, .goto (-159), 3), (215, .iinc 6 1, 3), (218, .goto (-190), 3), (221, .iload 4, 2), (223, .ireturn, 1)]
theorem tk_X1_seek : ∀ q ∈ tb_X1_seek, decode cX1_seek q.1 = .ok q.2 := by decide +kernel
theorem dc_X1_seek (k : Nat) {pc n : Nat} {i : Instr} (h : tb_X1_seek[k]? = some (pc, i, n)) : decode cX1_seek pc = .ok (i, n) := tk_X1_seek (pc, i, n) (List.mem_of_getElem? h)
abbrev mX1_seek : e_M := (yX1_seek, cX1_seek, 10, some (.int), [])
theorem ok_X1_seek : e_mok mX1_seek 3 := ⟨q1109, q108, by decide +kernel, fun sig h => by cases h; rfl⟩
theorem fl_X1_386_0_24 : e_FL "PegBands" 386 0 24 := ⟨_, rfl, by decide, Or.inl q482⟩
theorem fl_X1_389_0_23 : e_FL "PegBands" 389 0 23 := ⟨_, rfl, by decide, Or.inl q481⟩
theorem fl_X1_392_2_3 : e_FL "PegBands" 392 2 3 := ⟨_, rfl, by decide, Or.inr (Or.inr (Or.inl ⟨_, q255⟩))⟩
def lp_X1_seek_78 (F : Nat) (a0 : Nat) (a1 : Int32) (a2 : Int32) (a3 : Int32) (x23 : Int32) (x6_28 : Int32) (x7_53 : Int32) : Nat → Int32 → Int32 → e_H → Option (Except (Except (Except (Except (Except (Int32 × e_H) (Int32 × e_H)) (Int32 × e_H)) (Int32 × e_H)) (Int32 × e_H)) (Int32 × e_H))
  | 0, _, _, _ => none
  | n + 1, x4_78, x8_78, h_78 =>
    if x23 ≤ x8_78 then
      some (.ok (x4_78, h_78))
    else
      Option.bind (e_is h_78 a0 0) (fun _ =>
      Option.bind (f_X1_isFree h_78 a0 x8_78) (fun x88 =>
      e_bE (
          if x88 = 0 then
            some (.ok (x4_78, h_78))
          else
            Option.bind (f_X1_three h_78 a0 x6_28 x7_53 x8_78) (fun h104 =>
            Option.bind (e_fA h104 a0 0 22) (fun x108 =>
            Option.bind (e_is h104 x108 6) (fun _ =>
            Option.bind (f_X8_area F h104 x108) (fun x111 =>
            Option.bind (some (if 0 ≤ x111 then x111 else 0 - x111)) (fun x117 =>
            if x117 = 0 then
              some (.ok (x4_78, h104))
            else
              Option.bind (e_fA h104 a0 0 22) (fun x125 =>
              Option.bind (e_is h104 x125 6) (fun _ =>
              Option.bind (f_X8_on F h104 x125) (fun x128 =>
              if x128 = a1 then
                Option.bind (e_fA h104 a0 0 22) (fun x136 =>
                Option.bind (e_is h104 x136 6) (fun _ =>
                Option.bind (f_X8_within F h104 x136) (fun x139 =>
                if x139 = a2 then
                  Option.bind (e_fI h104 a0 0 24) (fun x150 =>
                  Option.bind (
                      e_bE (
                          if x150 = (-1) then
                            some (.ok ())
                          else
                            Option.bind (e_fI h104 a0 0 24) (fun x160 =>
                            if x160 ≤ x117 then
                              some (.error h104)
                            else
                              some (.ok ()))
                        : Option (Except e_H Unit)) (fun _ =>
                      Option.bind (e_gI h104 a0 0 24 x117) (fun h169 =>
                      some h169))
                    : Option (e_H)) (fun h172_7 =>
                  if x4_78 = a3 then
                    Option.bind (e_gI h172_7 a0 0 23 (((10000 * x6_28) + (100 * x7_53)) + x8_78)) (fun h194 =>
                    some (.error (.error (.error (.error (.error (.error (x4_78, h194))))))))
                  else
                    Option.bind (some (x4_78 + 1)) (fun x200 =>
                    some (.ok (x200, h172_7)))))
                else
                  some (.ok (x4_78, h104)))))
              else
                some (.ok (x4_78, h104))))))))))
        : Option (Except (Except (Except (Except (Except (Except (Int32 × e_H) (Int32 × e_H)) (Int32 × e_H)) (Int32 × e_H)) (Int32 × e_H)) (Int32 × e_H)) (Int32 × e_H))) (e_u2 (fun x4_203_6 h203_6 =>
      Option.bind (some (x8_78 + 1)) (fun x203 =>
      lp_X1_seek_78 F a0 a1 a2 a3 x23 x6_28 x7_53 n x4_203_6 x203 h203_6)))))
def lp_X1_seek_53 (F : Nat) (a0 : Nat) (a1 : Int32) (a2 : Int32) (a3 : Int32) (x23 : Int32) (x6_28 : Int32) : Nat → Int32 → Int32 → e_H → Option (Except (Except (Except (Int32 × e_H) (Int32 × e_H)) (Int32 × e_H)) (Int32 × e_H))
  | 0, _, _, _ => none
  | n + 1, x4_53, x7_53, h_53 =>
    if x23 ≤ x7_53 then
      some (.ok (x4_53, h_53))
    else
      Option.bind (e_is h_53 a0 0) (fun _ =>
      Option.bind (f_X1_isFree h_53 a0 x7_53) (fun x63 =>
      e_bE (
          if x63 = 0 then
            some (.ok (x4_53, h_53))
          else
            Option.bind (some (x7_53 + 1)) (fun x76 =>
            e_bE (
                lp_X1_seek_78 F a0 a1 a2 a3 x23 x6_28 x7_53 F x4_53 x76 h_53
              : Option (Except (Except (Except (Except (Except (Int32 × e_H) (Int32 × e_H)) (Int32 × e_H)) (Int32 × e_H)) (Int32 × e_H)) (Int32 × e_H))) (e_u2 (fun x4_209_5 h209_5 =>
            some (.ok (x4_209_5, h209_5)))))
        : Option (Except (Except (Except (Except (Int32 × e_H) (Int32 × e_H)) (Int32 × e_H)) (Int32 × e_H)) (Int32 × e_H))) (e_u2 (fun x4_209_4 h209_4 =>
      Option.bind (some (x7_53 + 1)) (fun x209 =>
      lp_X1_seek_53 F a0 a1 a2 a3 x23 x6_28 n x4_209_4 x209 h209_4)))))
def lp_X1_seek_28 (F : Nat) (a0 : Nat) (a1 : Int32) (a2 : Int32) (a3 : Int32) (x23 : Int32) : Nat → Int32 → Int32 → e_H → Option (Except (Int32 × e_H) (Int32 × e_H))
  | 0, _, _, _ => none
  | n + 1, x4_28, x6_28, h_28 =>
    if x23 ≤ x6_28 then
      some (.ok (x4_28, h_28))
    else
      Option.bind (e_is h_28 a0 0) (fun _ =>
      Option.bind (f_X1_isFree h_28 a0 x6_28) (fun x38 =>
      e_bE (
          if x38 = 0 then
            some (.ok (x4_28, h_28))
          else
            Option.bind (some (x6_28 + 1)) (fun x51 =>
            e_bE (
                lp_X1_seek_53 F a0 a1 a2 a3 x23 x6_28 F x4_28 x51 h_28
              : Option (Except (Except (Except (Int32 × e_H) (Int32 × e_H)) (Int32 × e_H)) (Int32 × e_H))) (e_u2 (fun x4_215_3 h215_3 =>
            some (.ok (x4_215_3, h215_3)))))
        : Option (Except (Except (Int32 × e_H) (Int32 × e_H)) (Int32 × e_H))) (e_u2 (fun x4_215_2 h215_2 =>
      Option.bind (some (x6_28 + 1)) (fun x215 =>
      lp_X1_seek_28 F a0 a1 a2 a3 x23 n x4_215_2 x215 h215_2)))))
def f_X1_seek (F : Nat) (h : e_H) (a0 : Nat) (a1 : Int32) (a2 : Int32) (a3 : Int32) : Option (Int32 × e_H) :=
  Option.bind (e_gI h a0 0 24 (-1)) (fun h5 =>
  Option.bind (e_gI h5 a0 0 23 (-1)) (fun h10 =>
  Option.bind (e_fA h10 a0 0 6) (fun x16 =>
  Option.bind (e_fI h10 x16 2 3) (fun x19 =>
  Option.bind (some (10 * x19)) (fun x23 =>
  e_bE (
      lp_X1_seek_28 F a0 a1 a2 a3 x23 F 0 0 h10
    : Option (Except (Int32 × e_H) (Int32 × e_H))) (e_u2 (fun x4_221_1 h221_1 =>
  some (x4_221_1, h221_1))))))))
set_option maxHeartbeats 4000000 in
set_option maxRecDepth 100000 in
theorem ct_X1_seek {l : Launch} {D : e_D} {B : Heap} {F : Nat} {d : Nat} {h : e_H} {a0 : Nat} {a1 : Int32} {a2 : Int32} {a3 : Int32} {v : Int32} {h1 : e_H} (hd : 279 ≤ d) (e : f_X1_seek F h a0 a1 a2 a3 = some (v, h1)) : e_Run l D B d mX1_seek [.ref a0, .int a1, .int a2, .int a3] h (.ok (some (.int v)), h1) := by
  refine e_start [some (.ref a0), some (.int a1), some (.int a2), some (.int a3), none, none, none, none, none, none] (by decide) rfl rfl rfl (Nat.le_of_ble_eq_true rfl) (fun K hl0 hD0 hB0 hM hd0 hr => ?_)
  subst hl0 hD0 hB0 hd0
  have ho : (k_M K).1.cls = "PegBands" := by rw [hM]; rfl
  have hT : (k_M K).2.2.2.1 = some (.int) := by rw [hM]
  refine (show Sx K cX1_seek 0 [some (.ref a0), some (.int a1), some (.int a2), some (.int a3), none, none, none, none, none, none] [] h (f_X1_seek F h a0 a1 a2 a3) (fun w => w = (v, h1)) from ?_) _ e rfl
  clear e
  unfold f_X1_seek
  refine S_iconst_ 0 (dc_X1_seek 0 rfl) rfl ?_
  refine S_istore (L' := [some (.ref a0), some (.int a1), some (.int a2), some (.int a3), some (.int 0), none, none, none, none, none]) (dc_X1_seek 1 rfl) rfl ?_
  refine S_aload_n (dc_X1_seek 2 rfl) rfl ?_
  refine S_iconst_ (-1) (dc_X1_seek 3 rfl) rfl ?_
  refine S_putI (dc_X1_seek 4 rfl) ho fl_X1_386_0_24 (fun _ _ => rfl) (Or.inl rfl) rfl rfl (fun h5 e5 => ?_)
  refine S_aload_n (dc_X1_seek 5 rfl) rfl ?_
  refine S_iconst_ (-1) (dc_X1_seek 6 rfl) rfl ?_
  refine S_putI (dc_X1_seek 7 rfl) ho fl_X1_389_0_23 (fun _ _ => rfl) (Or.inl rfl) rfl rfl (fun h10 e10 => ?_)
  refine S_bipush_ 10 (dc_X1_seek 8 rfl) rfl ?_
  refine S_aload_n (dc_X1_seek 9 rfl) rfl ?_
  refine S_getA (dc_X1_seek 10 rfl) ho fl_X1_63_0_6 (fun _ _ => rfl) (fun x16 e16 => ?_)
  refine S_getI (dc_X1_seek 11 rfl) ho fl_X1_392_2_3 (fun _ _ => rfl) (fun x19 e19 => ?_)
  refine S_imul (dc_X1_seek 12 rfl) ?_
  refine Sx.nameI (fun x23 n23 => ?_)
  refine S_istore (L' := [some (.ref a0), some (.int a1), some (.int a2), some (.int a3), some (.int 0), some (.int x23), none, none, none, none]) (dc_X1_seek 13 rfl) rfl ?_
  refine S_iconst_ 0 (dc_X1_seek 14 rfl) rfl ?_
  refine S_istore (L' := [some (.ref a0), some (.int a1), some (.int a2), some (.int a3), some (.int 0), some (.int x23), some (.int 0), none, none, none]) (dc_X1_seek 15 rfl) rfl ?_
  refine Sx.regKE2 (pc2 := 221) (L2 := fun (x4_221_1 : Int32) (h221_1 : e_H) => [none, none, none, none, some (.int x4_221_1), none, none, none, none, none]) (st2 := fun (x4_221_1 : Int32) (h221_1 : e_H) => []) (h2 := fun (x4_221_1 : Int32) (h221_1 : e_H) => h221_1) ?_ (fun Q1 hK1 hE1 => ?_)
  · intro x4_221_1 h221_1
    show Sx K cX1_seek 221 [none, none, none, none, some (.int x4_221_1), none, none, none, none, none] [] h221_1 _ _
    refine S_iload (dc_X1_seek 105 rfl) rfl ?_
    exact S_iret (dc_X1_seek 106 rfl) hT rfl (e_rqI hr)
  · have hK1 : ∀ (x4_221_1 : Int32) (h221_1 : e_H), Sx K cX1_seek 221 [none, none, none, none, some (.int x4_221_1), none, none, none, none, none] [] h221_1 (some (.ok (x4_221_1, h221_1))) Q1 := hK1
    have ih1 : ∀ (n : Nat) (x4_28 : Int32) (x6_28 : Int32) (h_28 : e_H), Sx K cX1_seek 28 [some (.ref a0), some (.int a1), some (.int a2), some (.int a3), some (.int x4_28), some (.int x23), some (.int x6_28), none, none, none] [] h_28 (lp_X1_seek_28 F a0 a1 a2 a3 x23 n x4_28 x6_28 h_28) Q1 := by
      intro n
      induction n with
      | zero => intro x4_28 x6_28 h_28; exact Sx.none
      | succ n ih1 =>
        intro x4_28 x6_28 h_28
        rw [lp_X1_seek_28.eq_2]
        refine S_iload (dc_X1_seek 16 rfl) rfl ?_
        refine S_iload (dc_X1_seek 17 rfl) rfl ?_
        refine S_icmp_ge 221 (dc_X1_seek 18 rfl) rfl (fun c32 => ?_) (fun c32 => ?_)
        · refine Sx.cut [false, false, false, false, true, false, false, true, true, true] ?_
          exact hK1 x4_28 h_28
        · refine S_aload_n (dc_X1_seek 19 rfl) rfl ?_
          refine S_iload (dc_X1_seek 20 rfl) rfl ?_
          refine Sx.ask (fun _ i38 => ?_)
          refine S_roI (d := k_d K - 1) (e_callV (b := a0) (As := [.int x6_28]) (rest := []) ok_X1_isFree rfl (Nat.le_of_ble_eq_true rfl) (dc_X1_seek 21 rfl) ho q1110 q1112 (show e_cl[0]? = some (RX1, TX1, 37) from rfl) (e_sel.of qs19) (e_is_of i38) rfl (Nat.le_of_ble_eq_true rfl)) (by omega) (fun _ e => ct_X1_isFree (by omega) e) (fun x38 e38 => ?_)
          refine Sx.regKE2 (pc2 := 215) (L2 := fun (x4_215_2 : Int32) (h215_2 : e_H) => [some (.ref a0), some (.int a1), some (.int a2), some (.int a3), some (.int x4_215_2), some (.int x23), some (.int x6_28), none, none, none]) (st2 := fun (x4_215_2 : Int32) (h215_2 : e_H) => []) (h2 := fun (x4_215_2 : Int32) (h215_2 : e_H) => h215_2) ?_ (fun Q2 hK2 hE2 => ?_)
          · intro x4_215_2 h215_2
            show Sx K cX1_seek 215 [some (.ref a0), some (.int a1), some (.int a2), some (.int a3), some (.int x4_215_2), some (.int x23), some (.int x6_28), none, none, none] [] h215_2 _ _
            refine S_iincN 1 (L' := fun x215 => [some (.ref a0), some (.int a1), some (.int a2), some (.int a3), some (.int x4_215_2), some (.int x23), some (.int x215), none, none, none]) (dc_X1_seek 103 rfl) rfl rfl (fun _ => rfl) (fun x215 n215 => ?_)
            refine S_goto 28 (dc_X1_seek 104 rfl) rfl ?_
            exact ih1 x4_215_2 x215 h215_2
          · have hK2 : ∀ (x4_215_2 : Int32) (h215_2 : e_H), Sx K cX1_seek 215 [some (.ref a0), some (.int a1), some (.int a2), some (.int a3), some (.int x4_215_2), some (.int x23), some (.int x6_28), none, none, none] [] h215_2 (some (.ok (x4_215_2, h215_2))) Q2 := hK2
            refine S_if_ne 47 (dc_X1_seek 22 rfl) rfl (fun c41 => ?_) (fun c41 => ?_)
            · refine S_iload (dc_X1_seek 24 rfl) rfl ?_
              refine S_iconst_ 1 (dc_X1_seek 25 rfl) rfl ?_
              refine S_iadd (dc_X1_seek 26 rfl) ?_
              refine Sx.nameI (fun x51 n51 => ?_)
              refine S_istore (L' := [some (.ref a0), some (.int a1), some (.int a2), some (.int a3), some (.int x4_28), some (.int x23), some (.int x6_28), some (.int x51), none, none]) (dc_X1_seek 27 rfl) rfl ?_
              refine Sx.regKE2 (pc2 := 215) (L2 := fun (x4_215_3 : Int32) (h215_3 : e_H) => [some (.ref a0), some (.int a1), some (.int a2), some (.int a3), some (.int x4_215_3), some (.int x23), some (.int x6_28), none, none, none]) (st2 := fun (x4_215_3 : Int32) (h215_3 : e_H) => []) (h2 := fun (x4_215_3 : Int32) (h215_3 : e_H) => h215_3) ?_ (fun Q3 hK3 hE3 => ?_)
              · intro x4_215_3 h215_3
                show Sx K cX1_seek 215 [some (.ref a0), some (.int a1), some (.int a2), some (.int a3), some (.int x4_215_3), some (.int x23), some (.int x6_28), none, none, none] [] h215_3 _ _
                exact hK2 x4_215_3 h215_3
              · have hK3 : ∀ (x4_215_3 : Int32) (h215_3 : e_H), Sx K cX1_seek 215 [some (.ref a0), some (.int a1), some (.int a2), some (.int a3), some (.int x4_215_3), some (.int x23), some (.int x6_28), none, none, none] [] h215_3 (some (.ok (x4_215_3, h215_3))) Q3 := hK3
                have ih3 : ∀ (n : Nat) (x4_53 : Int32) (x7_53 : Int32) (h_53 : e_H), Sx K cX1_seek 53 [some (.ref a0), some (.int a1), some (.int a2), some (.int a3), some (.int x4_53), some (.int x23), some (.int x6_28), some (.int x7_53), none, none] [] h_53 (lp_X1_seek_53 F a0 a1 a2 a3 x23 x6_28 n x4_53 x7_53 h_53) Q3 := by
                  intro n
                  induction n with
                  | zero => intro x4_53 x7_53 h_53; exact Sx.none
                  | succ n ih3 =>
                    intro x4_53 x7_53 h_53
                    rw [lp_X1_seek_53.eq_2]
                    refine S_iload (dc_X1_seek 28 rfl) rfl ?_
                    refine S_iload (dc_X1_seek 29 rfl) rfl ?_
                    refine S_icmp_ge 215 (dc_X1_seek 30 rfl) rfl (fun c57 => ?_) (fun c57 => ?_)
                    · refine Sx.cut [true, true, true, true, true, true, true, false, true, true] ?_
                      exact hK3 x4_53 h_53
                    · refine S_aload_n (dc_X1_seek 31 rfl) rfl ?_
                      refine S_iload (dc_X1_seek 32 rfl) rfl ?_
                      refine Sx.ask (fun _ i63 => ?_)
                      refine S_roI (d := k_d K - 1) (e_callV (b := a0) (As := [.int x7_53]) (rest := []) ok_X1_isFree rfl (Nat.le_of_ble_eq_true rfl) (dc_X1_seek 33 rfl) ho q1110 q1112 (show e_cl[0]? = some (RX1, TX1, 37) from rfl) (e_sel.of qs19) (e_is_of i63) rfl (Nat.le_of_ble_eq_true rfl)) (by omega) (fun _ e => ct_X1_isFree (by omega) e) (fun x63 e63 => ?_)
                      refine Sx.regKE2 (pc2 := 209) (L2 := fun (x4_209_4 : Int32) (h209_4 : e_H) => [some (.ref a0), some (.int a1), some (.int a2), some (.int a3), some (.int x4_209_4), some (.int x23), some (.int x6_28), some (.int x7_53), none, none]) (st2 := fun (x4_209_4 : Int32) (h209_4 : e_H) => []) (h2 := fun (x4_209_4 : Int32) (h209_4 : e_H) => h209_4) ?_ (fun Q4 hK4 hE4 => ?_)
                      · intro x4_209_4 h209_4
                        show Sx K cX1_seek 209 [some (.ref a0), some (.int a1), some (.int a2), some (.int a3), some (.int x4_209_4), some (.int x23), some (.int x6_28), some (.int x7_53), none, none] [] h209_4 _ _
                        refine S_iincN 1 (L' := fun x209 => [some (.ref a0), some (.int a1), some (.int a2), some (.int a3), some (.int x4_209_4), some (.int x23), some (.int x6_28), some (.int x209), none, none]) (dc_X1_seek 101 rfl) rfl rfl (fun _ => rfl) (fun x209 n209 => ?_)
                        refine S_goto 53 (dc_X1_seek 102 rfl) rfl ?_
                        exact ih3 x4_209_4 x209 h209_4
                      · have hK4 : ∀ (x4_209_4 : Int32) (h209_4 : e_H), Sx K cX1_seek 209 [some (.ref a0), some (.int a1), some (.int a2), some (.int a3), some (.int x4_209_4), some (.int x23), some (.int x6_28), some (.int x7_53), none, none] [] h209_4 (some (.ok (x4_209_4, h209_4))) Q4 := hK4
                        refine S_if_ne 72 (dc_X1_seek 34 rfl) rfl (fun c66 => ?_) (fun c66 => ?_)
                        · refine S_iload (dc_X1_seek 36 rfl) rfl ?_
                          refine S_iconst_ 1 (dc_X1_seek 37 rfl) rfl ?_
                          refine S_iadd (dc_X1_seek 38 rfl) ?_
                          refine Sx.nameI (fun x76 n76 => ?_)
                          refine S_istore (L' := [some (.ref a0), some (.int a1), some (.int a2), some (.int a3), some (.int x4_53), some (.int x23), some (.int x6_28), some (.int x7_53), some (.int x76), none]) (dc_X1_seek 39 rfl) rfl ?_
                          refine Sx.regKE2 (pc2 := 209) (L2 := fun (x4_209_5 : Int32) (h209_5 : e_H) => [some (.ref a0), some (.int a1), some (.int a2), some (.int a3), some (.int x4_209_5), some (.int x23), some (.int x6_28), some (.int x7_53), none, none]) (st2 := fun (x4_209_5 : Int32) (h209_5 : e_H) => []) (h2 := fun (x4_209_5 : Int32) (h209_5 : e_H) => h209_5) ?_ (fun Q5 hK5 hE5 => ?_)
                          · intro x4_209_5 h209_5
                            show Sx K cX1_seek 209 [some (.ref a0), some (.int a1), some (.int a2), some (.int a3), some (.int x4_209_5), some (.int x23), some (.int x6_28), some (.int x7_53), none, none] [] h209_5 _ _
                            exact hK4 x4_209_5 h209_5
                          · have hK5 : ∀ (x4_209_5 : Int32) (h209_5 : e_H), Sx K cX1_seek 209 [some (.ref a0), some (.int a1), some (.int a2), some (.int a3), some (.int x4_209_5), some (.int x23), some (.int x6_28), some (.int x7_53), none, none] [] h209_5 (some (.ok (x4_209_5, h209_5))) Q5 := hK5
                            have ih5 : ∀ (n : Nat) (x4_78 : Int32) (x8_78 : Int32) (h_78 : e_H), Sx K cX1_seek 78 [some (.ref a0), some (.int a1), some (.int a2), some (.int a3), some (.int x4_78), some (.int x23), some (.int x6_28), some (.int x7_53), some (.int x8_78), none] [] h_78 (lp_X1_seek_78 F a0 a1 a2 a3 x23 x6_28 x7_53 n x4_78 x8_78 h_78) Q5 := by
                              intro n
                              induction n with
                              | zero => intro x4_78 x8_78 h_78; exact Sx.none
                              | succ n ih5 =>
                                intro x4_78 x8_78 h_78
                                rw [lp_X1_seek_78.eq_2]
                                refine S_iload (dc_X1_seek 40 rfl) rfl ?_
                                refine S_iload (dc_X1_seek 41 rfl) rfl ?_
                                refine S_icmp_ge 209 (dc_X1_seek 42 rfl) rfl (fun c82 => ?_) (fun c82 => ?_)
                                · refine Sx.cut [true, true, true, true, true, true, true, true, false, true] ?_
                                  exact hK5 x4_78 h_78
                                · refine S_aload_n (dc_X1_seek 43 rfl) rfl ?_
                                  refine S_iload (dc_X1_seek 44 rfl) rfl ?_
                                  refine Sx.ask (fun _ i88 => ?_)
                                  refine S_roI (d := k_d K - 1) (e_callV (b := a0) (As := [.int x8_78]) (rest := []) ok_X1_isFree rfl (Nat.le_of_ble_eq_true rfl) (dc_X1_seek 45 rfl) ho q1110 q1112 (show e_cl[0]? = some (RX1, TX1, 37) from rfl) (e_sel.of qs19) (e_is_of i88) rfl (Nat.le_of_ble_eq_true rfl)) (by omega) (fun _ e => ct_X1_isFree (by omega) e) (fun x88 e88 => ?_)
                                  refine Sx.regKE2 (pc2 := 203) (L2 := fun (x4_203_6 : Int32) (h203_6 : e_H) => [some (.ref a0), some (.int a1), some (.int a2), some (.int a3), some (.int x4_203_6), some (.int x23), some (.int x6_28), some (.int x7_53), some (.int x8_78), none]) (st2 := fun (x4_203_6 : Int32) (h203_6 : e_H) => []) (h2 := fun (x4_203_6 : Int32) (h203_6 : e_H) => h203_6) ?_ (fun Q6 hK6 hE6 => ?_)
                                  · intro x4_203_6 h203_6
                                    show Sx K cX1_seek 203 [some (.ref a0), some (.int a1), some (.int a2), some (.int a3), some (.int x4_203_6), some (.int x23), some (.int x6_28), some (.int x7_53), some (.int x8_78), none] [] h203_6 _ _
                                    refine S_iincN 1 (L' := fun x203 => [some (.ref a0), some (.int a1), some (.int a2), some (.int a3), some (.int x4_203_6), some (.int x23), some (.int x6_28), some (.int x7_53), some (.int x203), none]) (dc_X1_seek 99 rfl) rfl rfl (fun _ => rfl) (fun x203 n203 => ?_)
                                    refine S_goto 78 (dc_X1_seek 100 rfl) rfl ?_
                                    exact ih5 x4_203_6 x203 h203_6
                                  · have hK6 : ∀ (x4_203_6 : Int32) (h203_6 : e_H), Sx K cX1_seek 203 [some (.ref a0), some (.int a1), some (.int a2), some (.int a3), some (.int x4_203_6), some (.int x23), some (.int x6_28), some (.int x7_53), some (.int x8_78), none] [] h203_6 (some (.ok (x4_203_6, h203_6))) Q6 := hK6
                                    refine S_if_ne 97 (dc_X1_seek 46 rfl) rfl (fun c91 => ?_) (fun c91 => ?_)
                                    · refine S_aload_n (dc_X1_seek 48 rfl) rfl ?_
                                      refine S_iload (dc_X1_seek 49 rfl) rfl ?_
                                      refine S_iload (dc_X1_seek 50 rfl) rfl ?_
                                      refine S_iload (dc_X1_seek 51 rfl) rfl ?_
                                      refine S_rwV (d := k_d K - 1) (e_callV (b := a0) (As := [.int x6_28, .int x7_53, .int x8_78]) (rest := []) ok_X1_three rfl (Nat.le_of_ble_eq_true rfl) (dc_X1_seek 52 rfl) ho q1114 q1116 (show e_cl[0]? = some (RX1, TX1, 37) from rfl) (e_sel.of qs20) (e_is_of i88) rfl (Nat.le_of_ble_eq_true rfl)) (by omega) (fun _ e => ct_X1_three (by omega) e) (fun h104 e104 => ?_)
                                      refine S_aload_n (dc_X1_seek 53 rfl) rfl ?_
                                      refine S_getA (dc_X1_seek 54 rfl) ho fl_X1_117_0_22 (fun _ _ => rfl) (fun x108 e108 => ?_)
                                      refine Sx.ask (fun _ i111 => ?_)
                                      refine S_roI (d := k_d K - 1) (e_callV (b := x108) (As := []) (rest := []) ok_X8_area rfl (Nat.le_of_ble_eq_true rfl) (dc_X1_seek 55 rfl) ho q1118 q1119 (show e_cl[6]? = some (RX8, TX8, 4) from rfl) (e_sel.of q1120) (e_is_of i111) rfl (Nat.le_of_ble_eq_true rfl)) (by omega) (fun _ e => ct_X8_area (by omega) e) (fun x111 e111 => ?_)
                                      refine S_mabs (dc_X1_seek 56 rfl) ho q1089 (by omega) (Nat.le_of_ble_eq_true rfl) ?_
                                      refine Sx.nameI (fun x117 n117 => ?_)
                                      refine S_istore (L' := [some (.ref a0), some (.int a1), some (.int a2), some (.int a3), some (.int x4_78), some (.int x23), some (.int x6_28), some (.int x7_53), some (.int x8_78), some (.int x117)]) (dc_X1_seek 57 rfl) rfl ?_
                                      refine S_iload (dc_X1_seek 58 rfl) rfl ?_
                                      refine S_if_eq 203 (dc_X1_seek 59 rfl) rfl (fun c121 => ?_) (fun c121 => ?_)
                                      · refine Sx.cut [true, true, true, true, true, true, true, true, true, false] ?_
                                        exact hK6 x4_78 h104
                                      · refine S_aload_n (dc_X1_seek 60 rfl) rfl ?_
                                        refine S_getA (dc_X1_seek 61 rfl) ho fl_X1_117_0_22 (fun _ _ => rfl) (fun x125 e125 => ?_)
                                        refine Sx.ask (fun _ i128 => ?_)
                                        refine S_roI (d := k_d K - 1) (e_callV (b := x125) (As := []) (rest := []) ok_X8_on rfl (Nat.le_of_ble_eq_true rfl) (dc_X1_seek 62 rfl) ho q1122 q1123 (show e_cl[6]? = some (RX8, TX8, 4) from rfl) (e_sel.of q1124) (e_is_of i128) rfl (Nat.le_of_ble_eq_true rfl)) (by omega) (fun _ e => ct_X8_on (by omega) e) (fun x128 e128 => ?_)
                                        refine S_iload_n (dc_X1_seek 63 rfl) rfl ?_
                                        refine S_icmp_ne 203 (dc_X1_seek 64 rfl) rfl (fun c132 => ?_) (fun c132 => ?_)
                                        · refine Sx.cut [true, true, true, true, true, true, true, true, true, false] ?_
                                          exact hK6 x4_78 h104
                                        · refine S_aload_n (dc_X1_seek 65 rfl) rfl ?_
                                          refine S_getA (dc_X1_seek 66 rfl) ho fl_X1_117_0_22 (fun _ _ => rfl) (fun x136 e136 => ?_)
                                          refine Sx.ask (fun _ i139 => ?_)
                                          refine S_roI (d := k_d K - 1) (e_callV (b := x136) (As := []) (rest := []) ok_X8_within rfl (Nat.le_of_ble_eq_true rfl) (dc_X1_seek 67 rfl) ho q1130 q1131 (show e_cl[6]? = some (RX8, TX8, 4) from rfl) (e_sel.of q1132) (e_is_of i139) rfl (Nat.le_of_ble_eq_true rfl)) (by omega) (fun _ e => ct_X8_within (by omega) e) (fun x139 e139 => ?_)
                                          refine S_iload_n (dc_X1_seek 68 rfl) rfl ?_
                                          refine S_icmp_eq 149 (dc_X1_seek 69 rfl) rfl (fun c143 => ?_) (fun c143 => ?_)
                                          · refine S_aload_n (dc_X1_seek 71 rfl) rfl ?_
                                            refine S_getI (dc_X1_seek 72 rfl) ho fl_X1_386_0_24 (fun _ _ => rfl) (fun x150 e150 => ?_)
                                            refine S_iconst_ (-1) (dc_X1_seek 73 rfl) rfl ?_
                                            refine Sx.regK1 (pc2 := 172) (L2 := fun (h172_7 : e_H) => [some (.ref a0), some (.int a1), some (.int a2), some (.int a3), some (.int x4_78), some (.int x23), some (.int x6_28), some (.int x7_53), some (.int x8_78), none]) (st2 := fun (h172_7 : e_H) => []) (h2 := fun (h172_7 : e_H) => h172_7) ?_ (fun Q7 hK7 => ?_)
                                            · intro h172_7
                                              show Sx K cX1_seek 172 [some (.ref a0), some (.int a1), some (.int a2), some (.int a3), some (.int x4_78), some (.int x23), some (.int x6_28), some (.int x7_53), some (.int x8_78), none] [] h172_7 _ _
                                              refine S_iload (dc_X1_seek 82 rfl) rfl ?_
                                              refine S_iload_n (dc_X1_seek 83 rfl) rfl ?_
                                              refine S_icmp_ne 200 (dc_X1_seek 84 rfl) rfl (fun c175 => ?_) (fun c175 => ?_)
                                              · refine S_iincN 1 (L' := fun x200 => [some (.ref a0), some (.int a1), some (.int a2), some (.int a3), some (.int x200), some (.int x23), some (.int x6_28), some (.int x7_53), some (.int x8_78), none]) (dc_X1_seek 98 rfl) rfl rfl (fun _ => rfl) (fun x200 n200 => ?_)
                                                exact hK6 x200 h172_7
                                              · refine S_aload_n (dc_X1_seek 85 rfl) rfl ?_
                                                refine S_sipush_ 10000 (dc_X1_seek 86 rfl) rfl ?_
                                                refine S_iload (dc_X1_seek 87 rfl) rfl ?_
                                                refine S_imul (dc_X1_seek 88 rfl) ?_
                                                refine S_bipush_ 100 (dc_X1_seek 89 rfl) rfl ?_
                                                refine S_iload (dc_X1_seek 90 rfl) rfl ?_
                                                refine S_imul (dc_X1_seek 91 rfl) ?_
                                                refine S_iadd (dc_X1_seek 92 rfl) ?_
                                                refine S_iload (dc_X1_seek 93 rfl) rfl ?_
                                                refine S_iadd (dc_X1_seek 94 rfl) ?_
                                                refine S_putI (dc_X1_seek 95 rfl) ho fl_X1_389_0_23 (fun _ _ => rfl) (Or.inl rfl) rfl rfl (fun h194 e194 => ?_)
                                                refine S_iload (dc_X1_seek 96 rfl) rfl ?_
                                                refine Sx.err hE6 ?_
                                                refine Sx.err hE5 ?_
                                                refine Sx.err hE4 ?_
                                                refine Sx.err hE3 ?_
                                                refine Sx.err hE2 ?_
                                                refine Sx.err hE1 ?_
                                                exact S_iret (dc_X1_seek 97 rfl) hT rfl (e_rqI hr)
                                            · have hK7 : ∀ (h172_7 : e_H), Sx K cX1_seek 172 [some (.ref a0), some (.int a1), some (.int a2), some (.int a3), some (.int x4_78), some (.int x23), some (.int x6_28), some (.int x7_53), some (.int x8_78), none] [] h172_7 (some h172_7) Q7 := hK7
                                              refine Sx.regKE0 (pc2 := 166) (L2 := [some (.ref a0), some (.int a1), some (.int a2), some (.int a3), some (.int x4_78), some (.int x23), some (.int x6_28), some (.int x7_53), some (.int x8_78), some (.int x117)]) (st2 := []) (h2 := h104) ?_ (fun Q8 hK8 hE8 => ?_)
                                              · skip
                                                refine S_aload_n (dc_X1_seek 79 rfl) rfl ?_
                                                refine S_iload (dc_X1_seek 80 rfl) rfl ?_
                                                refine S_putI (dc_X1_seek 81 rfl) ho fl_X1_386_0_24 (fun _ _ => rfl) (Or.inl rfl) rfl rfl (fun h169 e169 => ?_)
                                                refine Sx.cut [true, true, true, true, true, true, true, true, true, false] ?_
                                                exact hK7 h169
                                              · have hK8 : Sx K cX1_seek 166 [some (.ref a0), some (.int a1), some (.int a2), some (.int a3), some (.int x4_78), some (.int x23), some (.int x6_28), some (.int x7_53), some (.int x8_78), some (.int x117)] [] h104 (some (.ok ())) Q8 := hK8
                                                refine S_icmp_eq 166 (dc_X1_seek 74 rfl) rfl (fun c154 => ?_) (fun c154 => ?_)
                                                · exact hK8
                                                · refine S_iload (dc_X1_seek 75 rfl) rfl ?_
                                                  refine S_aload_n (dc_X1_seek 76 rfl) rfl ?_
                                                  refine S_getI (dc_X1_seek 77 rfl) ho fl_X1_386_0_24 (fun _ _ => rfl) (fun x160 e160 => ?_)
                                                  refine S_icmp_ge 172 (dc_X1_seek 78 rfl) rfl (fun c163 => ?_) (fun c163 => ?_)
                                                  · refine Sx.cut [true, true, true, true, true, true, true, true, true, false] ?_
                                                    refine Sx.err hE8 ?_
                                                    exact hK7 h104
                                                  · exact hK8
                                          · refine S_goto 203 (dc_X1_seek 70 rfl) rfl ?_
                                            refine Sx.cut [true, true, true, true, true, true, true, true, true, false] ?_
                                            exact hK6 x4_78 h104
                                    · refine S_goto 203 (dc_X1_seek 47 rfl) rfl ?_
                                      exact hK6 x4_78 h_78
                            exact ih5 F x4_53 x76 h_53
                        · refine S_goto 209 (dc_X1_seek 35 rfl) rfl ?_
                          exact hK4 x4_53 h_53
                exact ih3 F x4_28 x51 h_28
            · refine S_goto 215 (dc_X1_seek 23 rfl) rfl ?_
              exact hK2 x4_28 h_28
    exact ih1 F 0 0 h10
