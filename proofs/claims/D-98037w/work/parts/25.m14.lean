/-! printed by gen/gen.py -/
set_option maxRecDepth 100000
abbrev cX5_of : ByteArray := prog_15_method_17_code
def yX5_of : MethodName := ⟨"PegBands$Reader", "of", "(LPegBands$Board;)I"⟩
def tb_X5_of : List (Nat × Instr × Nat) := [(0, .iconst 0, 1), (1, .istore_n 2, 1), (2, .iload_n 2, 1), (3, .aload_n 1, 1), (4, .getfield 110, 3), (7, .if_icmp .ge 28, 3), (10, .aload_n 1, 1), (11, .getfield 113, 3), (14, .iload_n 2, 1), (15, .aaload, 1), (16, .getfield 117, 3), (19, .aload_n 0, 1), (20, .getfield 60, 3), (23, .lcmp, 1), (24, .ifCond .ne 5, 3), (27, .iload_n 2, 1), (28, .ireturn, 1), (29, .iinc 2 1, 3), (32, .goto (-30), 3), (35, .iconst (-1), 1), (36, .ireturn, 1)]
theorem tk_X5_of : ∀ q ∈ tb_X5_of, decode cX5_of q.1 = .ok q.2 := by decide +kernel
theorem dc_X5_of (k : Nat) {pc n : Nat} {i : Instr} (h : tb_X5_of[k]? = some (pc, i, n)) : decode cX5_of pc = .ok (i, n) := tk_X5_of (pc, i, n) (List.mem_of_getElem? h)
abbrev mX5_of : e_M := (yX5_of, cX5_of, 3, some (.int), [])
theorem ok_X5_of : e_mok mX5_of 1 := ⟨q762, q114, by decide +kernel, fun sig h => by cases h; rfl⟩
theorem fl_X5_110_2_4 : e_FL "PegBands$Reader" 110 2 4 := ⟨_, rfl, by decide, Or.inr (Or.inr (Or.inl ⟨_, q259⟩))⟩
theorem fl_X5_113_2_0 : e_FL "PegBands$Reader" 113 2 0 := ⟨_, rfl, by decide, Or.inr (Or.inr (Or.inl ⟨_, q243⟩))⟩
theorem fl_X5_117_6_3 : e_FL "PegBands$Reader" 117 6 3 := ⟨_, rfl, by decide, Or.inr (Or.inr (Or.inl ⟨_, q406⟩))⟩
def lp_X5_of_2 (F : Nat) (c : Nat) (h : e_H) (a0 : Nat) (a1 : Nat) : Nat → Int32 → Option (Except Int32 Unit)
  | 0, _ => none
  | n + 1, x2_2 =>
    Option.bind (e_fI h a1 2 4) (fun x4 =>
    if x4 ≤ x2_2 then
      some (.ok ())
    else
      Option.bind (e_fA h a1 2 0) (fun x11 =>
      Option.bind (e_aA h x11 4 x2_2) (fun x15 =>
      Option.bind (e_fJ h x15 6 3) (fun x16 =>
      Option.bind (e_fJ h a0 c 6) (fun x20 =>
      if (lg_cmp x16 x20) = 0 then
        some (.error x2_2)
      else
        Option.bind (some (x2_2 + 1)) (fun x29 =>
        lp_X5_of_2 F c h a0 a1 n x29))))))
def f_X5_of (F : Nat) (c : Nat) (h : e_H) (a0 : Nat) (a1 : Nat) : Option Int32 :=
  e_bE (
      lp_X5_of_2 F c h a0 a1 F 0
    : Option (Except Int32 Unit)) (fun _ =>
  some (-1))
set_option maxHeartbeats 4000000 in
set_option maxRecDepth 100000 in
theorem ct_X5_of {l : Launch} {D : e_D} {B : Heap} {F : Nat} {c : Nat} {d : Nat} {h : e_H} {a0 : Nat} {a1 : Nat} {v : Int32} (hc : c = 4 ∨ c = 5 ∨ c = 7) (hd : 1 ≤ d) (e : f_X5_of F c h a0 a1 = some v) : e_Run l D B d mX5_of [.ref a0, .ref a1] h (.ok (some (.int v)), h) := by
  refine e_start [some (.ref a0), some (.ref a1), none] (by decide) rfl rfl rfl (Nat.le_of_ble_eq_true rfl) (fun K hl0 hD0 hB0 hM hd0 hr => ?_)
  subst hl0 hD0 hB0 hd0
  have ho : (k_M K).1.cls = "PegBands$Reader" := by rw [hM]; rfl
  have hT : (k_M K).2.2.2.1 = some (.int) := by rw [hM]
  refine (show Sx K cX5_of 0 [some (.ref a0), some (.ref a1), none] [] h (f_X5_of F c h a0 a1) (fun w => w = v) from ?_) _ e rfl
  clear e
  unfold f_X5_of
  refine S_iconst_ 0 (dc_X5_of 0 rfl) rfl ?_
  refine S_istore_n (L' := [some (.ref a0), some (.ref a1), some (.int 0)]) (dc_X5_of 1 rfl) rfl ?_
  refine Sx.regKE0 (pc2 := 35) (L2 := [none, none, none]) (st2 := []) (h2 := h) ?_ (fun Q1 hK1 hE1 => ?_)
  · skip
    refine S_iconst_ (-1) (dc_X5_of 19 rfl) rfl ?_
    exact S_iret (dc_X5_of 20 rfl) hT rfl (fun q => by cases q; exact hr)
  · have hK1 : Sx K cX5_of 35 [none, none, none] [] h (some (.ok ())) Q1 := hK1
    have ih1 : ∀ (n : Nat) (x2_2 : Int32), Sx K cX5_of 2 [some (.ref a0), some (.ref a1), some (.int x2_2)] [] h (lp_X5_of_2 F c h a0 a1 n x2_2) Q1 := by
      intro n
      induction n with
      | zero => intro x2_2; exact Sx.none
      | succ n ih1 =>
        intro x2_2
        rw [lp_X5_of_2.eq_2]
        refine S_iload_n (dc_X5_of 2 rfl) rfl ?_
        refine S_aload_n (dc_X5_of 3 rfl) rfl ?_
        refine S_getI (dc_X5_of 4 rfl) ho fl_X5_110_2_4 (fun _ _ => rfl) (fun x4 e4 => ?_)
        refine S_icmp_ge 35 (dc_X5_of 5 rfl) rfl (fun c7 => ?_) (fun c7 => ?_)
        · refine Sx.cut [false, false, false] ?_
          exact hK1
        · refine S_aload_n (dc_X5_of 6 rfl) rfl ?_
          refine S_getA (dc_X5_of 7 rfl) ho fl_X5_113_2_0 (fun _ _ => rfl) (fun x11 e11 => ?_)
          refine S_iload_n (dc_X5_of 8 rfl) rfl ?_
          refine S_aaldA4 (dc_X5_of 9 rfl) (fun x15 e15 => ?_)
          refine S_getJ (dc_X5_of 10 rfl) ho fl_X5_117_6_3 (fun _ _ => rfl) (fun x16 e16 => ?_)
          refine S_aload_n (dc_X5_of 11 rfl) rfl ?_
          refine S_getJ (dc_X5_of 12 rfl) ho (fl_X5_60 hc).1 (fl_X5_60 hc).2.1 (fun x20 e20 => ?_)
          refine S_lcmp (dc_X5_of 13 rfl) ?_
          refine S_if_ne 29 (dc_X5_of 14 rfl) rfl (fun c24 => ?_) (fun c24 => ?_)
          · refine S_iincN 1 (L' := fun x29 => [some (.ref a0), some (.ref a1), some (.int x29)]) (dc_X5_of 17 rfl) rfl rfl (fun _ => rfl) (fun x29 n29 => ?_)
            refine S_goto 2 (dc_X5_of 18 rfl) rfl ?_
            exact ih1 x29
          · refine S_iload_n (dc_X5_of 15 rfl) rfl ?_
            refine Sx.err hE1 ?_
            exact S_iret (dc_X5_of 16 rfl) hT rfl (fun q => by cases q; exact hr)
    exact ih1 F 0
abbrev cX6_band : ByteArray := prog_5_method_4_code
def yX6_band : MethodName := ⟨"PegBands$BoardReader", "band", "()V"⟩
def tb_X6_band : List (Nat × Instr × Nat) := [(0, .aload_n 0, 1), (1, .aload_n 0, 1), (2, .invokevirtual 85, 3), (5, .iconst 1, 1), (6, .invokevirtual 59, 3), (9, .aload_n 0, 1), (10, .aload_n 0, 1), (11, .aload_n 0, 1), (12, .getfield 15, 3), (15, .invokevirtual 89, 3), (18, .iconst (-1), 1), (19, .if_icmp .ne 7, 3), (22, .iconst 1, 1), (23, .goto 4, 3), (26, .iconst 0, 1), (27, .iconst 3, 1), (28, .invokevirtual 59, 3), (31, .new 93, 3), (34, .dup, 1), (35, .invokespecial 95, 3), (38, .astore_n 1, 1), (39, .aload_n 1, 1), (40, .aload_n 0, 1), (41, .getfield 97, 3), (44, .putfield 101, 3), (47, .aload_n 0, 1), (48, .invokevirtual 72, 3), (51, .aload_n 1, 1), (52, .getfield 102, 3), (55, .iconst 3, 1), (56, .if_icmp .lt 12, 3), (59, .aload_n 0, 1), (60, .bipush 59, 2), (62, .invokevirtual 103, 3), (65, .ifCond .ne 95, 3), (68, .aload_n 0, 1), (69, .aload_n 0, 1), (70, .getfield 46, 3), (73, .iconst 2, 1), (74, .if_icmp .ne 7, 3), (77, .iconst 1, 1), (78, .goto 4, 3), (81, .iconst 0, 1), (82, .iconst 1, 1), (83, .invokevirtual 59, 3), (86, .aload_n 0, 1), (87, .aload_n 0, 1), (88, .getfield 79, 3), (91, .aload_n 0, 1), (92, .getfield 15, 3), (95, .getfield 33, 3), (98, .if_icmp .ge 7, 3), (101, .iconst 1, 1), (102, .goto 4, 3), (105, .iconst 0, 1), (106, .iconst 2, 1), (107, .invokevirtual 59, 3), (110, .aload_n 0, 1), (111, .aload_n 1, 1), (112, .getfield 102, 3), (115, .bipush 8, 2), (117, .if_icmp .ge 7, 3), (120, .iconst 1, 1), (121, .goto 4, 3), (124, .iconst 0, 1), (125, .iconst 4, 1), (126, .invokevirtual 59, 3), (129, .aload_n 0, 1), (130, .getfield 79, 3), (133, .istore_n 2, 1), (134, .aload_n 0, 1), (135, .invokevirtual 72, 3), (138, .aload_n 1, 1), (139, .iload_n 2, 1), (140, .aload_n 0, 1), (141, .iconst 0, 1), (142, .aload_n 0, 1), (143, .getfield 15, 3), (146, .getfield 39, 3), (149, .iconst 1, 1), (150, .isub, 1), (151, .invokevirtual 29, 3), (154, .invokevirtual 106, 3), (157, .goto (-106), 3), (160, .aload_n 0, 1), (161, .getfield 15, 3), (164, .aload_n 1, 1), (165, .iconst (-1), 1), (166, .invokevirtual 110, 3), (169, .istore_n 2, 1), (170, .iload_n 2, 1), (171, .ifCond .le 11, 3), (174, .aload_n 0, 1), (175, .getfield 3, 3), (178, .iload_n 2, 1), (179, .putfield 114, 3), (182, .aload_n 0, 1), (183, .iload_n 2, 1), (184, .ifCond .ne 7, 3), (187, .iconst 1, 1), (188, .goto 4, 3), (191, .iconst 0, 1), (192, .iconst 5, 1), (193, .invokevirtual 59, 3), (196, .aload_n 0, 1), (197, .getfield 15, 3), (200, .getfield 117, 3), (203, .aload_n 0, 1), (204, .getfield 15, 3), (207, .getfield 66, 3), (210, .aload_n 1, 1), (211, .aastore, 1), (212, .aload_n 0, 1), (213, .getfield 15, 3), (216, .dup, 1), (217, .getfield 66, 3), (220, .iconst 1, 1), (221, .iadd, 1), (222, .putfield 66, 3), (225, .return_, 1)]
theorem tk_X6_band : ∀ q ∈ tb_X6_band, decode cX6_band q.1 = .ok q.2 := by decide +kernel
theorem dc_X6_band (k : Nat) {pc n : Nat} {i : Instr} (h : tb_X6_band[k]? = some (pc, i, n)) : decode cX6_band pc = .ok (i, n) := tk_X6_band (pc, i, n) (List.mem_of_getElem? h)
abbrev mX6_band : e_M := (yX6_band, cX6_band, 3, none, [])
theorem ok_X6_band : e_mok mX6_band 0 := ⟨q743, q115, by decide +kernel, fun sig h => by cases h; rfl⟩
theorem fl_X6_97_4_6 : e_FL "PegBands$BoardReader" 97 4 6 := ⟨_, rfl, by decide, Or.inr (Or.inl ⟨_, q339, q340⟩)⟩
theorem fl_X6_101_6_3 : e_FL "PegBands$BoardReader" 101 6 3 := ⟨_, rfl, by decide, Or.inr (Or.inr (Or.inl ⟨_, q405⟩))⟩
theorem fl_X6_102_6_2 : e_FL "PegBands$BoardReader" 102 6 2 := ⟨_, rfl, by decide, Or.inr (Or.inr (Or.inl ⟨_, q401⟩))⟩
theorem fl_X6_114_0_12 : e_FL "PegBands$BoardReader" 114 0 12 := ⟨_, rfl, by decide, Or.inr (Or.inr (Or.inl ⟨_, q469⟩))⟩
theorem fl_X6_117_2_0 : e_FL "PegBands$BoardReader" 117 2 0 := ⟨_, rfl, by decide, Or.inr (Or.inr (Or.inl ⟨_, q242⟩))⟩
theorem fl_X6_66_2_4 : e_FL "PegBands$BoardReader" 66 2 4 := ⟨_, rfl, by decide, Or.inr (Or.inr (Or.inl ⟨_, q257⟩))⟩
def lp_X6_band_51 (F : Nat) (A : Nat → Nat) (a0 : Nat) (x31 : Nat) : Nat → e_H → Option (Except (Except (Nat × Nat) Unit × e_H) e_H)
  | 0, _ => none
  | n + 1, h_51 =>
    Option.bind (e_fI h_51 x31 6 2) (fun x52 =>
    e_bE (
        if x52 < 3 then
          some (.ok ())
        else
          Option.bind (e_is h_51 a0 4) (fun _ =>
          Option.bind (f_X5_is_2 4 h_51 a0 59) (fun x62 =>
          if x62 = 0 then
            some (.ok ())
          else
            some (.error (.ok h_51))))
      : Option (Except (Except (Except (Nat × Nat) Unit × e_H) e_H) Unit)) (fun _ =>
    Option.bind (e_fI h_51 a0 4 3) (fun x70 =>
    Option.bind (
        if x70 = 2 then
          some 1
        else
          some 0
      : Option (Int32)) (fun s82_4 =>
    e_b3 (f_X5_must 4 h_51 a0 s82_4 1) (fun z83 h83 =>
        some (.error (.error z83, h83))) (fun _ h83 =>
    Option.bind (e_fI h83 a0 4 4) (fun x88 =>
    Option.bind (e_fA h83 a0 4 8) (fun x92 =>
    Option.bind (e_fI h83 x92 2 2) (fun x95 =>
    Option.bind (
        if x95 ≤ x88 then
          some 0
        else
          some 1
      : Option (Int32)) (fun s106_5 =>
    e_b3 (f_X5_must 4 h83 a0 s106_5 2) (fun z107 h107 =>
        some (.error (.error z107, h107))) (fun _ h107 =>
    Option.bind (e_fI h107 x31 6 2) (fun x112 =>
    Option.bind (
        if 8 ≤ x112 then
          some 0
        else
          some 1
      : Option (Int32)) (fun s125_6 =>
    Option.bind (e_is h107 a0 4) (fun _ =>
    e_b3 (f_X5_must 4 h107 a0 s125_6 4) (fun z126 h126 =>
        some (.error (.error z126, h126))) (fun _ h126 =>
    Option.bind (e_fI h126 a0 4 4) (fun x130 =>
    Option.bind (f_X5_next F 4 h126 a0) (fun h135 =>
    Option.bind (e_fA h135 a0 4 8) (fun x143 =>
    Option.bind (e_fI h135 x143 2 3) (fun x146 =>
    e_b3 (f_X5_number F 4 h135 a0 0 (x146 - 1)) (fun z151 h151 =>
        some (.error (.error z151, h151))) (fun x151 h151 =>
    Option.bind (e_is h151 x31 6) (fun _ =>
    Option.bind (f_X8_add h151 x31 x130 x151) (fun h154 =>
    lp_X6_band_51 F A a0 x31 n h154)))))))))))))))))))))
def f_X6_band (F : Nat) (A : Nat → Nat) (h : e_H) (a0 : Nat) : Option (Except (Nat × Nat) Unit × e_H) :=
  Option.bind (e_is h a0 4) (fun _ =>
  Option.bind (f_X5_isName F A 4 h a0) (fun x2 =>
  e_b3 (f_X5_must 4 h a0 x2 1) (fun z6 h6 =>
      some (.error z6, h6)) (fun _ h6 =>
  Option.bind (e_fA h6 a0 4 8) (fun x12 =>
  Option.bind (f_X5_of F 4 h6 a0 x12) (fun x15 =>
  Option.bind (
      if x15 = (-1) then
        some 1
      else
        some 0
    : Option (Int32)) (fun s27_1 =>
  e_b3 (f_X5_must 4 h6 a0 s27_1 3) (fun z28 h28 =>
      some (.error z28, h28)) (fun _ h28 =>
  e_mkb h28 (.inl 6) 4 (fun x31 h31 =>
  Option.bind (f_X8_init h31 x31) (fun h35 =>
  Option.bind (e_fJ h35 a0 4 6) (fun x41 =>
  Option.bind (e_gJ h35 x31 6 3 x41) (fun h44 =>
  Option.bind (e_is h44 a0 4) (fun _ =>
  Option.bind (f_X5_next F 4 h44 a0) (fun h48 =>
  e_bE (
      lp_X6_band_51 F A a0 x31 F h48
    : Option (Except (Except (Nat × Nat) Unit × e_H) e_H)) (fun h160_2 =>
  Option.bind (e_fA h160_2 a0 4 8) (fun x161 =>
  Option.bind (e_is h160_2 x161 2) (fun _ =>
  Option.bind (f_X3_why F h160_2 x161 x31 (-1)) (fun x166 =>
  Option.bind (
      if x166 ≤ 0 then
        some h160_2
      else
        Option.bind (e_fA h160_2 a0 4 9) (fun x175 =>
        Option.bind (e_gI h160_2 x175 0 12 x166) (fun h179 =>
        some h179))
    : Option (e_H)) (fun h182_7 =>
  Option.bind (
      if x166 = 0 then
        some 1
      else
        some 0
    : Option (Int32)) (fun s192_8 =>
  Option.bind (e_is h182_7 a0 4) (fun _ =>
  e_b3 (f_X5_must 4 h182_7 a0 s192_8 5) (fun z193 h193 =>
      some (.error z193, h193)) (fun _ h193 =>
  Option.bind (e_fA h193 a0 4 8) (fun x197 =>
  Option.bind (e_fA h193 x197 2 0) (fun x200 =>
  Option.bind (e_fA h193 a0 4 8) (fun x204 =>
  Option.bind (e_fI h193 x204 2 4) (fun x207 =>
  Option.bind (e_wR h193 x200 4 x207 (some x31)) (fun h211 =>
  Option.bind (e_fA h211 a0 4 8) (fun x213 =>
  Option.bind (e_fI h211 x213 2 4) (fun x217 =>
  Option.bind (e_gI h211 x213 2 4 (x217 + 1)) (fun h222 =>
  some (.ok (), h222))))))))))))))))))))))))))))))
set_option maxHeartbeats 4000000 in
set_option maxRecDepth 100000 in
theorem ct_X6_band {l : Launch} {D : e_D} {B : Heap} {F : Nat} {A : Nat → Nat} {d : Nat} {h : e_H} {a0 : Nat} {o : Except (Nat × Nat) Unit} {h1 : e_H} (hA : D.2.2.1 = A) (hd : 9 ≤ d) (e : f_X6_band F A h a0 = some (o, h1)) : e_Run l D B d mX6_band [.ref a0] h (o.map (fun _ => none), h1) := by
  refine e_start [some (.ref a0), none, none] (by decide) rfl rfl rfl (Nat.le_of_ble_eq_true rfl) (fun K hl0 hD0 hB0 hM hd0 hr => ?_)
  subst hl0 hD0 hB0 hd0
  have ho : (k_M K).1.cls = "PegBands$BoardReader" := by rw [hM]; rfl
  have hT : (k_M K).2.2.2.1 = none := by rw [hM]
  have hX : ∀ pc, ∀ z ∈ tableOf (k_M K).2.2.2.2, covers z pc = false := by rw [hM]; intro pc z hz; cases hz
  refine (show Sx K cX6_band 0 [some (.ref a0), none, none] [] h (f_X6_band F A h a0) (fun w => w = (o, h1)) from ?_) _ e rfl
  clear e
  unfold f_X6_band
  refine S_aload_n (dc_X6_band 0 rfl) rfl ?_
  refine S_aload_n (dc_X6_band 1 rfl) rfl ?_
  refine Sx.ask (fun _ i2 => ?_)
  refine S_roI (d := k_d K - 1) (e_callVU (b := a0) (x := ⟨"PegBands$BoardReader", "isName", "()Z"⟩) (owner := "PegBands$Reader") (As := []) (rest := [.ref a0]) ok_X5_isName rfl (Nat.le_of_ble_eq_true rfl) (dc_X6_band 2 rfl) ho q744 q745 (Or.inr ⟨rfl, q748⟩) (by decide) q748 rfl (show e_cl[4]? = some (RX6, TX6, 10) from rfl) (e_sel.of q747) (e_is_of i2) rfl (Nat.le_of_ble_eq_true rfl)) (by omega) (fun _ e => ct_X5_isName (by decide) hA (by omega) e) (fun x2 e2 => ?_)
  refine S_iconst_ 1 (dc_X6_band 3 rfl) rfl ?_
  refine S_exV (d := k_d K - 1) (e_callVU (b := a0) (x := ⟨"PegBands$BoardReader", "must", "(ZI)V"⟩) (owner := "PegBands$Reader") (As := [.int x2, .int 1]) (rest := []) ok_X5_must rfl (Nat.le_of_ble_eq_true rfl) (dc_X6_band 4 rfl) ho q728 q729 (Or.inr ⟨rfl, q689⟩) (by decide) q689 rfl (show e_cl[4]? = some (RX6, TX6, 10) from rfl) (e_sel.of q731) (e_is_of i2) rfl (Nat.le_of_ble_eq_true rfl)) (by omega) (fun _ _ e => ct_X5_must (by decide) (by omega) e) (fun z6 h6 e6 => ?_) (fun _ h6 e6 => ?_)
  · exact SxX.out (hX _) (fun q => by cases q; exact hr)
  refine S_aload_n (dc_X6_band 5 rfl) rfl ?_
  refine S_aload_n (dc_X6_band 6 rfl) rfl ?_
  refine S_aload_n (dc_X6_band 7 rfl) rfl ?_
  refine S_getA (dc_X6_band 8 rfl) ho fl_X6_15_4_8 (fun _ _ => rfl) (fun x12 e12 => ?_)
  refine S_roI (d := k_d K - 1) (e_callVU (b := a0) (x := ⟨"PegBands$BoardReader", "of", "(LPegBands$Board;)I"⟩) (owner := "PegBands$Reader") (As := [.ref x12]) (rest := [.ref a0]) ok_X5_of rfl (Nat.le_of_ble_eq_true rfl) (dc_X6_band 9 rfl) ho q757 q758 (Or.inr ⟨rfl, q761⟩) (by decide) q761 rfl (show e_cl[4]? = some (RX6, TX6, 10) from rfl) (e_sel.of q760) (e_fA_of e12).1 rfl (Nat.le_of_ble_eq_true rfl)) (by omega) (fun _ e => ct_X5_of (by decide) (by omega) e) (fun x15 e15 => ?_)
  refine S_iconst_ (-1) (dc_X6_band 10 rfl) rfl ?_
  refine Sx.regK1 (pc2 := 27) (L2 := fun (s27_1 : Int32) => [some (.ref a0), none, none]) (st2 := fun (s27_1 : Int32) => [.int s27_1, .ref a0]) (h2 := fun (s27_1 : Int32) => h6) ?_ (fun Q1 hK1 => ?_)
  · intro s27_1
    show Sx K cX6_band 27 [some (.ref a0), none, none] [.int s27_1, .ref a0] h6 _ _
    refine S_iconst_ 3 (dc_X6_band 15 rfl) rfl ?_
    refine S_exV (d := k_d K - 1) (e_callVU (b := a0) (x := ⟨"PegBands$BoardReader", "must", "(ZI)V"⟩) (owner := "PegBands$Reader") (As := [.int s27_1, .int 3]) (rest := []) ok_X5_must rfl (Nat.le_of_ble_eq_true rfl) (dc_X6_band 16 rfl) ho q728 q729 (Or.inr ⟨rfl, q689⟩) (by decide) q689 rfl (show e_cl[4]? = some (RX6, TX6, 10) from rfl) (e_sel.of q731) (e_fA_of e12).1 rfl (Nat.le_of_ble_eq_true rfl)) (by omega) (fun _ _ e => ct_X5_must (by decide) (by omega) e) (fun z28 h28 e28 => ?_) (fun _ h28 e28 => ?_)
    · exact SxX.out (hX _) (fun q => by cases q; exact hr)
    refine S_newB (dc_X6_band 17 rfl) ho (show e_cl[6]? = some (RX8, TX8, 4) from rfl) (by decide) q763 q387 q117 (fun x31 h31 u31 w31 => ?_)
    refine S_dup (dc_X6_band 18 rfl) rfl ?_
    refine S_rwV (d := k_d K - 1) (e_callI (b := x31) (As := []) (rest := [.ref x31]) ok_X8_init rfl rfl rfl (Nat.le_of_ble_eq_true rfl) (dc_X6_band 19 rfl) ho q764 q389 rfl (Nat.le_of_ble_eq_true rfl)) (by omega) (fun _ e => ct_X8_init (by omega) e) (fun h35 e35 => ?_)
    refine S_astore_n (L' := [some (.ref a0), some (.ref x31), none]) (dc_X6_band 20 rfl) rfl ?_
    refine S_aload_n (dc_X6_band 21 rfl) rfl ?_
    refine S_aload_n (dc_X6_band 22 rfl) rfl ?_
    refine S_getJ (dc_X6_band 23 rfl) ho fl_X6_97_4_6 (fun _ _ => rfl) (fun x41 e41 => ?_)
    refine S_putJ (dc_X6_band 24 rfl) ho fl_X6_101_6_3 (fun _ _ => rfl) (Or.inl rfl) rfl rfl (fun h44 e44 => ?_)
    refine S_aload_n (dc_X6_band 25 rfl) rfl ?_
    refine Sx.ask (fun _ i48 => ?_)
    refine S_rwV (d := k_d K - 1) (e_callVU (b := a0) (x := ⟨"PegBands$BoardReader", "next", "()V"⟩) (owner := "PegBands$Reader") (As := []) (rest := []) ok_X5_next rfl (Nat.le_of_ble_eq_true rfl) (dc_X6_band 26 rfl) ho q732 q733 (Or.inr ⟨rfl, q601⟩) (by decide) q601 rfl (show e_cl[4]? = some (RX6, TX6, 10) from rfl) (e_sel.of q735) (e_is_of i48) rfl (Nat.le_of_ble_eq_true rfl)) (by omega) (fun _ e => ct_X5_next (by decide) (by omega) e) (fun h48 e48 => ?_)
    refine Sx.regKE1 (pc2 := 160) (L2 := fun (h160_2 : e_H) => [some (.ref a0), some (.ref x31), none]) (st2 := fun (h160_2 : e_H) => []) (h2 := fun (h160_2 : e_H) => h160_2) ?_ (fun Q2 hK2 hE2 => ?_)
    · intro h160_2
      show Sx K cX6_band 160 [some (.ref a0), some (.ref x31), none] [] h160_2 _ _
      refine S_aload_n (dc_X6_band 84 rfl) rfl ?_
      refine S_getA (dc_X6_band 85 rfl) ho fl_X6_15_4_8 (fun _ _ => rfl) (fun x161 e161 => ?_)
      refine S_aload_n (dc_X6_band 86 rfl) rfl ?_
      refine S_iconst_ (-1) (dc_X6_band 87 rfl) rfl ?_
      refine Sx.ask (fun _ i166 => ?_)
      refine S_roI (d := k_d K - 1) (e_callV (b := x161) (As := [.ref x31, .int (-1)]) (rest := []) ok_X3_why rfl (Nat.le_of_ble_eq_true rfl) (dc_X6_band 88 rfl) ho q773 q774 (show e_cl[2]? = some (RX3, TX3, 7) from rfl) (e_sel.of q775) (e_is_of i166) rfl (Nat.le_of_ble_eq_true rfl)) (by omega) (fun _ e => ct_X3_why (by omega) e) (fun x166 e166 => ?_)
      refine S_istore_n (L' := [some (.ref a0), some (.ref x31), some (.int x166)]) (dc_X6_band 89 rfl) rfl ?_
      refine S_iload_n (dc_X6_band 90 rfl) rfl ?_
      refine Sx.regK1 (pc2 := 182) (L2 := fun (h182_7 : e_H) => [some (.ref a0), some (.ref x31), some (.int x166)]) (st2 := fun (h182_7 : e_H) => []) (h2 := fun (h182_7 : e_H) => h182_7) ?_ (fun Q7 hK7 => ?_)
      · intro h182_7
        show Sx K cX6_band 182 [some (.ref a0), some (.ref x31), some (.int x166)] [] h182_7 _ _
        refine S_aload_n (dc_X6_band 96 rfl) rfl ?_
        refine S_iload_n (dc_X6_band 97 rfl) rfl ?_
        refine Sx.regK1 (pc2 := 192) (L2 := fun (s192_8 : Int32) => [some (.ref a0), some (.ref x31), none]) (st2 := fun (s192_8 : Int32) => [.int s192_8, .ref a0]) (h2 := fun (s192_8 : Int32) => h182_7) ?_ (fun Q8 hK8 => ?_)
        · intro s192_8
          show Sx K cX6_band 192 [some (.ref a0), some (.ref x31), none] [.int s192_8, .ref a0] h182_7 _ _
          refine S_iconst_ 5 (dc_X6_band 102 rfl) rfl ?_
          refine Sx.ask (fun _ i193 => ?_)
          refine S_exV (d := k_d K - 1) (e_callVU (b := a0) (x := ⟨"PegBands$BoardReader", "must", "(ZI)V"⟩) (owner := "PegBands$Reader") (As := [.int s192_8, .int 5]) (rest := []) ok_X5_must rfl (Nat.le_of_ble_eq_true rfl) (dc_X6_band 103 rfl) ho q728 q729 (Or.inr ⟨rfl, q689⟩) (by decide) q689 rfl (show e_cl[4]? = some (RX6, TX6, 10) from rfl) (e_sel.of q731) (e_is_of i193) rfl (Nat.le_of_ble_eq_true rfl)) (by omega) (fun _ _ e => ct_X5_must (by decide) (by omega) e) (fun z193 h193 e193 => ?_) (fun _ h193 e193 => ?_)
          · exact SxX.out (hX _) (fun q => by cases q; exact hr)
          refine S_aload_n (dc_X6_band 104 rfl) rfl ?_
          refine S_getA (dc_X6_band 105 rfl) ho fl_X6_15_4_8 (fun _ _ => rfl) (fun x197 e197 => ?_)
          refine S_getA (dc_X6_band 106 rfl) ho fl_X6_117_2_0 (fun _ _ => rfl) (fun x200 e200 => ?_)
          refine S_aload_n (dc_X6_band 107 rfl) rfl ?_
          refine S_getA (dc_X6_band 108 rfl) ho fl_X6_15_4_8 (fun _ _ => rfl) (fun x204 e204 => ?_)
          refine S_getI (dc_X6_band 109 rfl) ho fl_X6_66_2_4 (fun _ _ => rfl) (fun x207 e207 => ?_)
          refine S_aload_n (dc_X6_band 110 rfl) rfl ?_
          refine S_aastV (t := 4) (dc_X6_band 111 rfl) rfl (fun _ _ _ => rfl) (fun h211 e211 => ?_)
          refine S_aload_n (dc_X6_band 112 rfl) rfl ?_
          refine S_getA (dc_X6_band 113 rfl) ho fl_X6_15_4_8 (fun _ _ => rfl) (fun x213 e213 => ?_)
          refine S_dup (dc_X6_band 114 rfl) rfl ?_
          refine S_getI (dc_X6_band 115 rfl) ho fl_X6_66_2_4 (fun _ _ => rfl) (fun x217 e217 => ?_)
          refine S_iconst_ 1 (dc_X6_band 116 rfl) rfl ?_
          refine S_iadd (dc_X6_band 117 rfl) ?_
          refine S_putI (dc_X6_band 118 rfl) ho fl_X6_66_2_4 (fun _ _ => rfl) (Or.inl rfl) rfl rfl (fun h222 e222 => ?_)
          exact S_vret (dc_X6_band 119 rfl) hT (fun q => by cases q; exact hr)
        · have hK8 : ∀ (s192_8 : Int32), Sx K cX6_band 192 [some (.ref a0), some (.ref x31), none] [.int s192_8, .ref a0] h182_7 (some s192_8) Q8 := hK8
          refine S_if_ne 191 (dc_X6_band 98 rfl) rfl (fun c184 => ?_) (fun c184 => ?_)
          · refine S_iconst_ 0 (dc_X6_band 101 rfl) rfl ?_
            refine Sx.cut [true, true, false] ?_
            exact hK8 0
          · refine S_iconst_ 1 (dc_X6_band 99 rfl) rfl ?_
            refine S_goto 192 (dc_X6_band 100 rfl) rfl ?_
            refine Sx.cut [true, true, false] ?_
            exact hK8 1
      · have hK7 : ∀ (h182_7 : e_H), Sx K cX6_band 182 [some (.ref a0), some (.ref x31), some (.int x166)] [] h182_7 (some h182_7) Q7 := hK7
        refine S_if_le 182 (dc_X6_band 91 rfl) rfl (fun c171 => ?_) (fun c171 => ?_)
        · exact hK7 h160_2
        · refine S_aload_n (dc_X6_band 92 rfl) rfl ?_
          refine S_getA (dc_X6_band 93 rfl) ho fl_X6_3_4_9 (fun _ _ => rfl) (fun x175 e175 => ?_)
          refine S_iload_n (dc_X6_band 94 rfl) rfl ?_
          refine S_putI (dc_X6_band 95 rfl) ho fl_X6_114_0_12 (fun _ _ => rfl) (Or.inl rfl) rfl rfl (fun h179 e179 => ?_)
          exact hK7 h179
    · have hK2 : ∀ (h160_2 : e_H), Sx K cX6_band 160 [some (.ref a0), some (.ref x31), none] [] h160_2 (some (.ok h160_2)) Q2 := hK2
      have ih2 : ∀ (n : Nat) (h_51 : e_H), Sx K cX6_band 51 [some (.ref a0), some (.ref x31), none] [] h_51 (lp_X6_band_51 F A a0 x31 n h_51) Q2 := by
        intro n
        induction n with
        | zero => intro h_51; exact Sx.none
        | succ n ih2 =>
          intro h_51
          rw [lp_X6_band_51.eq_2]
          refine S_aload_n (dc_X6_band 27 rfl) rfl ?_
          refine S_getI (dc_X6_band 28 rfl) ho fl_X6_102_6_2 (fun _ _ => rfl) (fun x52 e52 => ?_)
          refine S_iconst_ 3 (dc_X6_band 29 rfl) rfl ?_
          refine Sx.regKE0 (pc2 := 68) (L2 := [some (.ref a0), some (.ref x31), none]) (st2 := []) (h2 := h_51) ?_ (fun Q3 hK3 hE3 => ?_)
          · skip
            refine S_aload_n (dc_X6_band 35 rfl) rfl ?_
            refine S_aload_n (dc_X6_band 36 rfl) rfl ?_
            refine S_getI (dc_X6_band 37 rfl) ho fl_X6_46_4_3 (fun _ _ => rfl) (fun x70 e70 => ?_)
            refine S_iconst_ 2 (dc_X6_band 38 rfl) rfl ?_
            refine Sx.regK1 (pc2 := 82) (L2 := fun (s82_4 : Int32) => [some (.ref a0), some (.ref x31), none]) (st2 := fun (s82_4 : Int32) => [.int s82_4, .ref a0]) (h2 := fun (s82_4 : Int32) => h_51) ?_ (fun Q4 hK4 => ?_)
            · intro s82_4
              show Sx K cX6_band 82 [some (.ref a0), some (.ref x31), none] [.int s82_4, .ref a0] h_51 _ _
              refine S_iconst_ 1 (dc_X6_band 43 rfl) rfl ?_
              refine S_exV (d := k_d K - 1) (e_callVU (b := a0) (x := ⟨"PegBands$BoardReader", "must", "(ZI)V"⟩) (owner := "PegBands$Reader") (As := [.int s82_4, .int 1]) (rest := []) ok_X5_must rfl (Nat.le_of_ble_eq_true rfl) (dc_X6_band 44 rfl) ho q728 q729 (Or.inr ⟨rfl, q689⟩) (by decide) q689 rfl (show e_cl[4]? = some (RX6, TX6, 10) from rfl) (e_sel.of q731) (e_fI_of e70).1 rfl (Nat.le_of_ble_eq_true rfl)) (by omega) (fun _ _ e => ct_X5_must (by decide) (by omega) e) (fun z83 h83 e83 => ?_) (fun _ h83 e83 => ?_)
              · refine SxX.err hE2 ?_
                exact SxX.out (hX _) (fun q => by cases q; exact hr)
              refine S_aload_n (dc_X6_band 45 rfl) rfl ?_
              refine S_aload_n (dc_X6_band 46 rfl) rfl ?_
              refine S_getI (dc_X6_band 47 rfl) ho fl_X6_79_4_4 (fun _ _ => rfl) (fun x88 e88 => ?_)
              refine S_aload_n (dc_X6_band 48 rfl) rfl ?_
              refine S_getA (dc_X6_band 49 rfl) ho fl_X6_15_4_8 (fun _ _ => rfl) (fun x92 e92 => ?_)
              refine S_getI (dc_X6_band 50 rfl) ho fl_X6_33_2_2 (fun _ _ => rfl) (fun x95 e95 => ?_)
              refine Sx.regK1 (pc2 := 106) (L2 := fun (s106_5 : Int32) => [some (.ref a0), some (.ref x31), none]) (st2 := fun (s106_5 : Int32) => [.int s106_5, .ref a0]) (h2 := fun (s106_5 : Int32) => h83) ?_ (fun Q5 hK5 => ?_)
              · intro s106_5
                show Sx K cX6_band 106 [some (.ref a0), some (.ref x31), none] [.int s106_5, .ref a0] h83 _ _
                refine S_iconst_ 2 (dc_X6_band 55 rfl) rfl ?_
                refine S_exV (d := k_d K - 1) (e_callVU (b := a0) (x := ⟨"PegBands$BoardReader", "must", "(ZI)V"⟩) (owner := "PegBands$Reader") (As := [.int s106_5, .int 2]) (rest := []) ok_X5_must rfl (Nat.le_of_ble_eq_true rfl) (dc_X6_band 56 rfl) ho q728 q729 (Or.inr ⟨rfl, q689⟩) (by decide) q689 rfl (show e_cl[4]? = some (RX6, TX6, 10) from rfl) (e_sel.of q731) (e_fI_of e88).1 rfl (Nat.le_of_ble_eq_true rfl)) (by omega) (fun _ _ e => ct_X5_must (by decide) (by omega) e) (fun z107 h107 e107 => ?_) (fun _ h107 e107 => ?_)
                · refine SxX.err hE2 ?_
                  exact SxX.out (hX _) (fun q => by cases q; exact hr)
                refine S_aload_n (dc_X6_band 57 rfl) rfl ?_
                refine S_aload_n (dc_X6_band 58 rfl) rfl ?_
                refine S_getI (dc_X6_band 59 rfl) ho fl_X6_102_6_2 (fun _ _ => rfl) (fun x112 e112 => ?_)
                refine S_bipush_ 8 (dc_X6_band 60 rfl) rfl ?_
                refine Sx.regK1 (pc2 := 125) (L2 := fun (s125_6 : Int32) => [some (.ref a0), some (.ref x31), none]) (st2 := fun (s125_6 : Int32) => [.int s125_6, .ref a0]) (h2 := fun (s125_6 : Int32) => h107) ?_ (fun Q6 hK6 => ?_)
                · intro s125_6
                  show Sx K cX6_band 125 [some (.ref a0), some (.ref x31), none] [.int s125_6, .ref a0] h107 _ _
                  refine S_iconst_ 4 (dc_X6_band 65 rfl) rfl ?_
                  refine Sx.ask (fun _ i126 => ?_)
                  refine S_exV (d := k_d K - 1) (e_callVU (b := a0) (x := ⟨"PegBands$BoardReader", "must", "(ZI)V"⟩) (owner := "PegBands$Reader") (As := [.int s125_6, .int 4]) (rest := []) ok_X5_must rfl (Nat.le_of_ble_eq_true rfl) (dc_X6_band 66 rfl) ho q728 q729 (Or.inr ⟨rfl, q689⟩) (by decide) q689 rfl (show e_cl[4]? = some (RX6, TX6, 10) from rfl) (e_sel.of q731) (e_is_of i126) rfl (Nat.le_of_ble_eq_true rfl)) (by omega) (fun _ _ e => ct_X5_must (by decide) (by omega) e) (fun z126 h126 e126 => ?_) (fun _ h126 e126 => ?_)
                  · refine SxX.err hE2 ?_
                    exact SxX.out (hX _) (fun q => by cases q; exact hr)
                  refine S_aload_n (dc_X6_band 67 rfl) rfl ?_
                  refine S_getI (dc_X6_band 68 rfl) ho fl_X6_79_4_4 (fun _ _ => rfl) (fun x130 e130 => ?_)
                  refine S_istore_n (L' := [some (.ref a0), some (.ref x31), some (.int x130)]) (dc_X6_band 69 rfl) rfl ?_
                  refine S_aload_n (dc_X6_band 70 rfl) rfl ?_
                  refine S_rwV (d := k_d K - 1) (e_callVU (b := a0) (x := ⟨"PegBands$BoardReader", "next", "()V"⟩) (owner := "PegBands$Reader") (As := []) (rest := []) ok_X5_next rfl (Nat.le_of_ble_eq_true rfl) (dc_X6_band 71 rfl) ho q732 q733 (Or.inr ⟨rfl, q601⟩) (by decide) q601 rfl (show e_cl[4]? = some (RX6, TX6, 10) from rfl) (e_sel.of q735) (e_fI_of e130).1 rfl (Nat.le_of_ble_eq_true rfl)) (by omega) (fun _ e => ct_X5_next (by decide) (by omega) e) (fun h135 e135 => ?_)
                  refine S_aload_n (dc_X6_band 72 rfl) rfl ?_
                  refine S_iload_n (dc_X6_band 73 rfl) rfl ?_
                  refine S_aload_n (dc_X6_band 74 rfl) rfl ?_
                  refine S_iconst_ 0 (dc_X6_band 75 rfl) rfl ?_
                  refine S_aload_n (dc_X6_band 76 rfl) rfl ?_
                  refine S_getA (dc_X6_band 77 rfl) ho fl_X6_15_4_8 (fun _ _ => rfl) (fun x143 e143 => ?_)
                  refine S_getI (dc_X6_band 78 rfl) ho fl_X6_39_2_3 (fun _ _ => rfl) (fun x146 e146 => ?_)
                  refine S_iconst_ 1 (dc_X6_band 79 rfl) rfl ?_
                  refine S_isub (dc_X6_band 80 rfl) ?_
                  refine S_exI (d := k_d K - 1) (e_callVU (b := a0) (x := ⟨"PegBands$BoardReader", "number", "(II)I"⟩) (owner := "PegBands$Reader") (As := [.int 0, .int (x146 - 1)]) (rest := [.int x130, .ref x31]) ok_X5_number rfl (Nat.le_of_ble_eq_true rfl) (dc_X6_band 81 rfl) ho q702 q703 (Or.inr ⟨rfl, q706⟩) (by decide) q706 rfl (show e_cl[4]? = some (RX6, TX6, 10) from rfl) (e_sel.of q705) (e_fA_of e143).1 rfl (Nat.le_of_ble_eq_true rfl)) (by omega) (fun _ _ e => ct_X5_number (by decide) (by omega) e) (fun z151 h151 e151 => ?_) (fun x151 h151 e151 => ?_)
                  · refine SxX.err hE2 ?_
                    exact SxX.out (hX _) (fun q => by cases q; exact hr)
                  refine Sx.ask (fun _ i154 => ?_)
                  refine S_rwV (d := k_d K - 1) (e_callV (b := x31) (As := [.int x130, .int x151]) (rest := []) ok_X8_add rfl (Nat.le_of_ble_eq_true rfl) (dc_X6_band 82 rfl) ho q769 q770 (show e_cl[6]? = some (RX8, TX8, 4) from rfl) (e_sel.of q771) (e_is_of i154) rfl (Nat.le_of_ble_eq_true rfl)) (by omega) (fun _ e => ct_X8_add (by omega) e) (fun h154 e154 => ?_)
                  refine S_goto 51 (dc_X6_band 83 rfl) rfl ?_
                  refine Sx.cut [true, true, false] ?_
                  exact ih2 h154
                · have hK6 : ∀ (s125_6 : Int32), Sx K cX6_band 125 [some (.ref a0), some (.ref x31), none] [.int s125_6, .ref a0] h107 (some s125_6) Q6 := hK6
                  refine S_icmp_ge 124 (dc_X6_band 61 rfl) rfl (fun c117 => ?_) (fun c117 => ?_)
                  · refine S_iconst_ 0 (dc_X6_band 64 rfl) rfl ?_
                    exact hK6 0
                  · refine S_iconst_ 1 (dc_X6_band 62 rfl) rfl ?_
                    refine S_goto 125 (dc_X6_band 63 rfl) rfl ?_
                    exact hK6 1
              · have hK5 : ∀ (s106_5 : Int32), Sx K cX6_band 106 [some (.ref a0), some (.ref x31), none] [.int s106_5, .ref a0] h83 (some s106_5) Q5 := hK5
                refine S_icmp_ge 105 (dc_X6_band 51 rfl) rfl (fun c98 => ?_) (fun c98 => ?_)
                · refine S_iconst_ 0 (dc_X6_band 54 rfl) rfl ?_
                  exact hK5 0
                · refine S_iconst_ 1 (dc_X6_band 52 rfl) rfl ?_
                  refine S_goto 106 (dc_X6_band 53 rfl) rfl ?_
                  exact hK5 1
            · have hK4 : ∀ (s82_4 : Int32), Sx K cX6_band 82 [some (.ref a0), some (.ref x31), none] [.int s82_4, .ref a0] h_51 (some s82_4) Q4 := hK4
              refine S_icmp_ne 81 (dc_X6_band 39 rfl) rfl (fun c74 => ?_) (fun c74 => ?_)
              · refine S_iconst_ 0 (dc_X6_band 42 rfl) rfl ?_
                exact hK4 0
              · refine S_iconst_ 1 (dc_X6_band 40 rfl) rfl ?_
                refine S_goto 82 (dc_X6_band 41 rfl) rfl ?_
                exact hK4 1
          · have hK3 : Sx K cX6_band 68 [some (.ref a0), some (.ref x31), none] [] h_51 (some (.ok ())) Q3 := hK3
            refine S_icmp_lt 68 (dc_X6_band 30 rfl) rfl (fun c56 => ?_) (fun c56 => ?_)
            · exact hK3
            · refine S_aload_n (dc_X6_band 31 rfl) rfl ?_
              refine S_bipush_ 59 (dc_X6_band 32 rfl) rfl ?_
              refine Sx.ask (fun _ i62 => ?_)
              refine S_roI (d := k_d K - 1) (e_callVU (b := a0) (x := ⟨"PegBands$BoardReader", "is", "(I)Z"⟩) (owner := "PegBands$Reader") (As := [.int 59]) (rest := []) ok_X5_is_2 rfl (Nat.le_of_ble_eq_true rfl) (dc_X6_band 33 rfl) ho q765 q766 (Or.inr ⟨rfl, q715⟩) (by decide) q715 rfl (show e_cl[4]? = some (RX6, TX6, 10) from rfl) (e_sel.of q768) (e_is_of i62) rfl (Nat.le_of_ble_eq_true rfl)) (by omega) (fun _ e => ct_X5_is_2 (by decide) (by omega) e) (fun x62 e62 => ?_)
              refine S_if_ne 160 (dc_X6_band 34 rfl) rfl (fun c65 => ?_) (fun c65 => ?_)
              · refine Sx.err hE3 ?_
                exact hK2 h_51
              · exact hK3
      exact ih2 F h48
  · have hK1 : ∀ (s27_1 : Int32), Sx K cX6_band 27 [some (.ref a0), none, none] [.int s27_1, .ref a0] h6 (some s27_1) Q1 := hK1
    refine S_icmp_ne 26 (dc_X6_band 11 rfl) rfl (fun c19 => ?_) (fun c19 => ?_)
    · refine S_iconst_ 0 (dc_X6_band 14 rfl) rfl ?_
      exact hK1 0
    · refine S_iconst_ 1 (dc_X6_band 12 rfl) rfl ?_
      refine S_goto 27 (dc_X6_band 13 rfl) rfl ?_
      exact hK1 1
abbrev cX6_read : ByteArray := prog_5_method_2_code
def yX6_read : MethodName := ⟨"PegBands$BoardReader", "read", "(LPegBands$Board;)I"⟩
def tb_X6_read : List (Nat × Instr × Nat) := [(0, .aload_n 0, 1), (1, .aload_n 1, 1), (2, .putfield 15, 3), (5, .aload_n 0, 1), (6, .invokevirtual 19, 3), (9, .aload_n 0, 1), (10, .ldc 23, 2), (12, .invokevirtual 25, 3), (15, .aload_n 0, 1), (16, .getfield 15, 3), (19, .aload_n 0, 1), (20, .iconst 2, 1), (21, .bipush 10, 2), (23, .invokevirtual 29, 3), (26, .putfield 33, 3), (29, .aload_n 0, 1), (30, .getfield 15, 3), (33, .aload_n 0, 1), (34, .iconst 2, 1), (35, .bipush 10, 2), (37, .invokevirtual 29, 3), (40, .putfield 39, 3), (43, .aload_n 0, 1), (44, .bipush 59, 2), (46, .invokevirtual 42, 3), (49, .iconst 1, 1), (50, .istore_n 2, 1), (51, .aload_n 0, 1), (52, .getfield 46, 3), (55, .ifCond .eq 189, 3), (58, .aload_n 0, 1), (59, .ldc 49, 2), (61, .invokevirtual 51, 3), (64, .istore_n 3, 1), (65, .aload_n 0, 1), (66, .ldc 55, 2), (68, .invokevirtual 51, 3), (71, .istore 4, 2), (73, .aload_n 0, 1), (74, .ldc 57, 2), (76, .invokevirtual 51, 3), (79, .istore 5, 2), (81, .aload_n 0, 1), (82, .iload_n 3, 1), (83, .ifCond .ne 13, 3), (86, .iload 4, 2), (88, .ifCond .ne 8, 3), (91, .iload 5, 2), (93, .ifCond .eq 7, 3), (96, .iconst 1, 1), (97, .goto 4, 3), (100, .iconst 0, 1), (101, .iconst 1, 1), (102, .invokevirtual 59, 3), (105, .aload_n 0, 1), (106, .iload 5, 2), (108, .ifCond .eq 13, 3), (111, .aload_n 0, 1), (112, .getfield 15, 3), (115, .getfield 63, 3), (118, .ifCond .ne 22, 3), (121, .iload 4, 2), (123, .ifCond .eq 13, 3), (126, .aload_n 0, 1), (127, .getfield 15, 3), (130, .getfield 66, 3), (133, .ifCond .gt 7, 3), (136, .iconst 1, 1), (137, .goto 4, 3), (140, .iconst 0, 1), (141, .iconst 3, 1), (142, .invokevirtual 59, 3), (145, .aload_n 0, 1), (146, .iload_n 3, 1), (147, .ifCond .eq 23, 3), (150, .aload_n 0, 1), (151, .getfield 15, 3), (154, .getfield 66, 3), (157, .bipush 8, 2), (159, .if_icmp .ge 7, 3), (162, .iconst 1, 1), (163, .goto 29, 3), (166, .iconst 0, 1), (167, .goto 25, 3), (170, .iload 4, 2), (172, .ifCond .eq 15, 3), (175, .aload_n 0, 1), (176, .getfield 15, 3), (179, .getfield 69, 3), (182, .bipush 12, 2), (184, .if_icmp .ge 7, 3), (187, .iconst 1, 1), (188, .goto 4, 3), (191, .iconst 0, 1), (192, .iconst 4, 1), (193, .invokevirtual 59, 3), (196, .aload_n 0, 1), (197, .invokevirtual 72, 3), (200, .iload 5, 2), (202, .ifCond .eq 14, 3), (205, .aload_n 0, 1), (206, .getfield 15, 3), (209, .iconst 1, 1), (210, .putfield 63, 3), (213, .goto 19, 3), (216, .iload 4, 2), (218, .ifCond .eq 10, 3), (221, .aload_n 0, 1), (222, .invokevirtual 75, 3), (225, .goto 7, 3), (228, .aload_n 0, 1), (229, .invokevirtual 77, 3), (232, .aload_n 0, 1), (233, .bipush 59, 2), (235, .invokevirtual 42, 3), (238, .iinc 2 1, 3), (241, .goto (-190), 3), (244, .iload_n 2, 1), (245, .ireturn, 1)]
theorem tk_X6_read : ∀ q ∈ tb_X6_read, decode cX6_read q.1 = .ok q.2 := by decide +kernel
theorem dc_X6_read (k : Nat) {pc n : Nat} {i : Instr} (h : tb_X6_read[k]? = some (pc, i, n)) : decode cX6_read pc = .ok (i, n) := tk_X6_read (pc, i, n) (List.mem_of_getElem? h)
abbrev mX6_read : e_M := (yX6_read, cX6_read, 6, some (.int), [])
theorem ok_X6_read : e_mok mX6_read 1 := ⟨q593, q115, by decide +kernel, fun sig h => by cases h; rfl⟩
theorem fl_X6_63_2_6 : e_FL "PegBands$BoardReader" 63 2 6 := ⟨_, rfl, by decide, Or.inr (Or.inr (Or.inl ⟨_, q264⟩))⟩
def lp_X6_read_51 (F : Nat) (A : Nat → Nat) (a0 : Nat) : Nat → Int32 → e_H → Option (Except (Except (Nat × Nat) Int32 × e_H) (Int32 × e_H))
  | 0, _, _ => none
  | n + 1, x2_51, h_51 =>
    Option.bind (e_fI h_51 a0 4 3) (fun x52 =>
    if x52 = 0 then
      some (.ok (x2_51, h_51))
    else
      Option.bind (f_X5_is F A 4 h_51 a0 (A 3)) (fun x61 =>
      Option.bind (f_X5_is F A 4 h_51 a0 (A 2)) (fun x68 =>
      Option.bind (f_X5_is F A 4 h_51 a0 (A 1)) (fun x76 =>
      Option.bind (
          e_bE (
              if x61 = 0 then
                if x68 = 0 then
                  if x76 = 0 then
                    some (.error 0)
                  else
                    some (.ok ())
                else
                  some (.ok ())
              else
                some (.ok ())
            : Option (Except Int32 Unit)) (fun _ =>
          some 1)
        : Option (Int32)) (fun s101_2 =>
      e_b3 (f_X5_must 4 h_51 a0 s101_2 1) (fun z102 h102 =>
          some (.error (.error z102, h102))) (fun _ h102 =>
      Option.bind (
          e_bE (
              e_bE (
                  if x76 = 0 then
                    some (.ok ())
                  else
                    Option.bind (e_fA h102 a0 4 8) (fun x112 =>
                    Option.bind (e_fI h102 x112 2 6) (fun x115 =>
                    if x115 = 0 then
                      some (.ok ())
                    else
                      some (.error (.ok ()))))
                : Option (Except (Except Int32 Unit) Unit)) (fun _ =>
              e_bE (
                  if x68 = 0 then
                    some (.ok ())
                  else
                    Option.bind (e_fA h102 a0 4 8) (fun x127 =>
                    Option.bind (e_fI h102 x127 2 4) (fun x130 =>
                    if 0 < x130 then
                      some (.error (.ok ()))
                    else
                      some (.ok ())))
                : Option (Except (Except Int32 Unit) Unit)) (fun _ =>
              some (.error 1)))
            : Option (Except Int32 Unit)) (fun _ =>
          some 0)
        : Option (Int32)) (fun s141_4 =>
      Option.bind (e_is h102 a0 4) (fun _ =>
      e_b3 (f_X5_must 4 h102 a0 s141_4 3) (fun z142 h142 =>
          some (.error (.error z142, h142))) (fun _ h142 =>
      Option.bind (
          if x61 = 0 then
            e_bE (
                if x68 = 0 then
                  some (.ok ())
                else
                  Option.bind (e_fA h142 a0 4 8) (fun x176 =>
                  Option.bind (e_fI h142 x176 2 5) (fun x179 =>
                  if 12 ≤ x179 then
                    some (.error 0)
                  else
                    some (.ok ())))
              : Option (Except Int32 Unit)) (fun _ =>
            some 1)
          else
            Option.bind (e_fA h142 a0 4 8) (fun x151 =>
            Option.bind (e_fI h142 x151 2 4) (fun x154 =>
            if 8 ≤ x154 then
              some 0
            else
              some 1))
        : Option (Int32)) (fun s192_8 =>
      Option.bind (e_is h142 a0 4) (fun _ =>
      e_b3 (f_X5_must 4 h142 a0 s192_8 4) (fun z193 h193 =>
          some (.error (.error z193, h193))) (fun _ h193 =>
      Option.bind (e_is h193 a0 4) (fun _ =>
      Option.bind (f_X5_next F 4 h193 a0) (fun h197 =>
      e_bE (
          if x76 = 0 then
            if x68 = 0 then
              Option.bind (e_is h197 a0 4) (fun _ =>
              e_b3 (f_X6_band F A h197 a0) (fun z229 h229 =>
                  some (.error (.error (.error z229, h229)))) (fun _ h229 =>
              some (.ok h229)))
            else
              Option.bind (e_is h197 a0 4) (fun _ =>
              e_b3 (f_X6_out F h197 a0) (fun z222 h222 =>
                  some (.error (.error (.error z222, h222)))) (fun _ h222 =>
              some (.ok h222)))
          else
            Option.bind (e_fA h197 a0 4 8) (fun x206 =>
            Option.bind (e_gI h197 x206 2 6 1) (fun h210 =>
            some (.ok h210)))
        : Option (Except (Except (Except (Nat × Nat) Int32 × e_H) (Int32 × e_H)) e_H)) (fun h232_10 =>
      Option.bind (e_is h232_10 a0 4) (fun _ =>
      e_b3 (f_X5_sign F 4 h232_10 a0 59) (fun z235 h235 =>
          some (.error (.error z235, h235))) (fun _ h235 =>
      Option.bind (some (x2_51 + 1)) (fun x238 =>
      lp_X6_read_51 F A a0 n x238 h235))))))))))))))))))
def f_X6_read (F : Nat) (A : Nat → Nat) (h : e_H) (a0 : Nat) (a1 : Nat) : Option (Except (Nat × Nat) Int32 × e_H) :=
  Option.bind (e_gR h a0 4 8 (some a1)) (fun h2 =>
  Option.bind (e_is h2 a0 4) (fun _ =>
  Option.bind (f_X5_begin F 4 h2 a0) (fun h6 =>
  Option.bind (e_is h6 a0 4) (fun _ =>
  e_b3 (f_X5_word F A 4 h6 a0 (A 0)) (fun z12 h12 =>
      some (.error z12, h12)) (fun _ h12 =>
  Option.bind (e_fA h12 a0 4 8) (fun x16 =>
  e_b3 (f_X5_number F 4 h12 a0 2 10) (fun z23 h23 =>
      some (.error z23, h23)) (fun x23 h23 =>
  Option.bind (e_gI h23 x16 2 2 x23) (fun h26 =>
  Option.bind (e_fA h26 a0 4 8) (fun x30 =>
  e_b3 (f_X5_number F 4 h26 a0 2 10) (fun z37 h37 =>
      some (.error z37, h37)) (fun x37 h37 =>
  Option.bind (e_gI h37 x30 2 3 x37) (fun h40 =>
  Option.bind (e_is h40 a0 4) (fun _ =>
  e_b3 (f_X5_sign F 4 h40 a0 59) (fun z46 h46 =>
      some (.error z46, h46)) (fun _ h46 =>
  e_bE (
      lp_X6_read_51 F A a0 F 1 h46
    : Option (Except (Except (Nat × Nat) Int32 × e_H) (Int32 × e_H))) (e_u2 (fun x2_244_1 h244_1 =>
  some (.ok x2_244_1, h244_1))))))))))))))))
set_option maxHeartbeats 4000000 in
set_option maxRecDepth 100000 in
theorem ct_X6_read {l : Launch} {D : e_D} {B : Heap} {F : Nat} {A : Nat → Nat} {d : Nat} {h : e_H} {a0 : Nat} {a1 : Nat} {o : Except (Nat × Nat) Int32} {h1 : e_H} (hA : D.2.2.1 = A) (hd : 10 ≤ d) (e : f_X6_read F A h a0 a1 = some (o, h1)) : e_Run l D B d mX6_read [.ref a0, .ref a1] h (o.map (fun v => some (.int v)), h1) := by
  refine e_start [some (.ref a0), some (.ref a1), none, none, none, none] (by decide) rfl rfl rfl (Nat.le_of_ble_eq_true rfl) (fun K hl0 hD0 hB0 hM hd0 hr => ?_)
  subst hl0 hD0 hB0 hd0
  have ho : (k_M K).1.cls = "PegBands$BoardReader" := by rw [hM]; rfl
  have hT : (k_M K).2.2.2.1 = some (.int) := by rw [hM]
  have hX : ∀ pc, ∀ z ∈ tableOf (k_M K).2.2.2.2, covers z pc = false := by rw [hM]; intro pc z hz; cases hz
  refine (show Sx K cX6_read 0 [some (.ref a0), some (.ref a1), none, none, none, none] [] h (f_X6_read F A h a0 a1) (fun w => w = (o, h1)) from ?_) _ e rfl
  clear e
  unfold f_X6_read
  refine S_aload_n (dc_X6_read 0 rfl) rfl ?_
  refine S_aload_n (dc_X6_read 1 rfl) rfl ?_
  refine S_putR (v := (some a1)) (dc_X6_read 2 rfl) ho fl_X6_15_4_8 (fun _ _ => rfl) (Or.inl rfl) rfl (fun h2 e2 => ?_)
  refine S_aload_n (dc_X6_read 3 rfl) rfl ?_
  refine Sx.ask (fun _ i6 => ?_)
  refine S_rwV (d := k_d K - 1) (e_callVU (b := a0) (x := ⟨"PegBands$BoardReader", "begin", "()V"⟩) (owner := "PegBands$Reader") (As := []) (rest := []) ok_X5_begin rfl (Nat.le_of_ble_eq_true rfl) (dc_X6_read 4 rfl) ho q594 q595 (Or.inr ⟨rfl, q598⟩) (by decide) q598 rfl (show e_cl[4]? = some (RX6, TX6, 10) from rfl) (e_sel.of q597) (e_is_of i6) rfl (Nat.le_of_ble_eq_true rfl)) (by omega) (fun _ e => ct_X5_begin (by decide) (by omega) e) (fun h6 e6 => ?_)
  refine S_aload_n (dc_X6_read 5 rfl) rfl ?_
  refine S_ldcS (j := 0) hA (dc_X6_read 6 rfl) ho (List.mem_of_getElem? (i := 22) rfl) ?_
  refine Sx.ask (fun _ i12 => ?_)
  refine S_exV (d := k_d K - 1) (e_callVU (b := a0) (x := ⟨"PegBands$BoardReader", "word", "(Ljava/lang/String;)V"⟩) (owner := "PegBands$Reader") (As := [.ref (A 0)]) (rest := []) ok_X5_word rfl (Nat.le_of_ble_eq_true rfl) (dc_X6_read 7 rfl) ho q627 q628 (Or.inr ⟨rfl, q631⟩) (by decide) q631 rfl (show e_cl[4]? = some (RX6, TX6, 10) from rfl) (e_sel.of q630) (e_is_of i12) rfl (Nat.le_of_ble_eq_true rfl)) (by omega) (fun _ _ e => ct_X5_word (by decide) hA (by omega) e) (fun z12 h12 e12 => ?_) (fun _ h12 e12 => ?_)
  · exact SxX.out (hX _) (fun q => by cases q; exact hr)
  refine S_aload_n (dc_X6_read 8 rfl) rfl ?_
  refine S_getA (dc_X6_read 9 rfl) ho fl_X6_15_4_8 (fun _ _ => rfl) (fun x16 e16 => ?_)
  refine S_aload_n (dc_X6_read 10 rfl) rfl ?_
  refine S_iconst_ 2 (dc_X6_read 11 rfl) rfl ?_
  refine S_bipush_ 10 (dc_X6_read 12 rfl) rfl ?_
  refine S_exI (d := k_d K - 1) (e_callVU (b := a0) (x := ⟨"PegBands$BoardReader", "number", "(II)I"⟩) (owner := "PegBands$Reader") (As := [.int 2, .int 10]) (rest := [.ref x16]) ok_X5_number rfl (Nat.le_of_ble_eq_true rfl) (dc_X6_read 13 rfl) ho q702 q703 (Or.inr ⟨rfl, q706⟩) (by decide) q706 rfl (show e_cl[4]? = some (RX6, TX6, 10) from rfl) (e_sel.of q705) (e_fA_of e16).1 rfl (Nat.le_of_ble_eq_true rfl)) (by omega) (fun _ _ e => ct_X5_number (by decide) (by omega) e) (fun z23 h23 e23 => ?_) (fun x23 h23 e23 => ?_)
  · exact SxX.out (hX _) (fun q => by cases q; exact hr)
  refine S_putI (dc_X6_read 14 rfl) ho fl_X6_33_2_2 (fun _ _ => rfl) (Or.inl rfl) rfl rfl (fun h26 e26 => ?_)
  refine S_aload_n (dc_X6_read 15 rfl) rfl ?_
  refine S_getA (dc_X6_read 16 rfl) ho fl_X6_15_4_8 (fun _ _ => rfl) (fun x30 e30 => ?_)
  refine S_aload_n (dc_X6_read 17 rfl) rfl ?_
  refine S_iconst_ 2 (dc_X6_read 18 rfl) rfl ?_
  refine S_bipush_ 10 (dc_X6_read 19 rfl) rfl ?_
  refine S_exI (d := k_d K - 1) (e_callVU (b := a0) (x := ⟨"PegBands$BoardReader", "number", "(II)I"⟩) (owner := "PegBands$Reader") (As := [.int 2, .int 10]) (rest := [.ref x30]) ok_X5_number rfl (Nat.le_of_ble_eq_true rfl) (dc_X6_read 20 rfl) ho q702 q703 (Or.inr ⟨rfl, q706⟩) (by decide) q706 rfl (show e_cl[4]? = some (RX6, TX6, 10) from rfl) (e_sel.of q705) (e_fA_of e30).1 rfl (Nat.le_of_ble_eq_true rfl)) (by omega) (fun _ _ e => ct_X5_number (by decide) (by omega) e) (fun z37 h37 e37 => ?_) (fun x37 h37 e37 => ?_)
  · exact SxX.out (hX _) (fun q => by cases q; exact hr)
  refine S_putI (dc_X6_read 21 rfl) ho fl_X6_39_2_3 (fun _ _ => rfl) (Or.inl rfl) rfl rfl (fun h40 e40 => ?_)
  refine S_aload_n (dc_X6_read 22 rfl) rfl ?_
  refine S_bipush_ 59 (dc_X6_read 23 rfl) rfl ?_
  refine Sx.ask (fun _ i46 => ?_)
  refine S_exV (d := k_d K - 1) (e_callVU (b := a0) (x := ⟨"PegBands$BoardReader", "sign", "(I)V"⟩) (owner := "PegBands$Reader") (As := [.int 59]) (rest := []) ok_X5_sign rfl (Nat.le_of_ble_eq_true rfl) (dc_X6_read 24 rfl) ho q708 q709 (Or.inr ⟨rfl, q712⟩) (by decide) q712 rfl (show e_cl[4]? = some (RX6, TX6, 10) from rfl) (e_sel.of q711) (e_is_of i46) rfl (Nat.le_of_ble_eq_true rfl)) (by omega) (fun _ _ e => ct_X5_sign (by decide) (by omega) e) (fun z46 h46 e46 => ?_) (fun _ h46 e46 => ?_)
  · exact SxX.out (hX _) (fun q => by cases q; exact hr)
  refine S_iconst_ 1 (dc_X6_read 25 rfl) rfl ?_
  refine S_istore_n (L' := [some (.ref a0), some (.ref a1), some (.int 1), none, none, none]) (dc_X6_read 26 rfl) rfl ?_
  refine Sx.regKE2 (pc2 := 244) (L2 := fun (x2_244_1 : Int32) (h244_1 : e_H) => [none, none, some (.int x2_244_1), none, none, none]) (st2 := fun (x2_244_1 : Int32) (h244_1 : e_H) => []) (h2 := fun (x2_244_1 : Int32) (h244_1 : e_H) => h244_1) ?_ (fun Q1 hK1 hE1 => ?_)
  · intro x2_244_1 h244_1
    show Sx K cX6_read 244 [none, none, some (.int x2_244_1), none, none, none] [] h244_1 _ _
    refine S_iload_n (dc_X6_read 117 rfl) rfl ?_
    exact S_iret (dc_X6_read 118 rfl) hT rfl (fun q => by cases q; exact hr)
  · have hK1 : ∀ (x2_244_1 : Int32) (h244_1 : e_H), Sx K cX6_read 244 [none, none, some (.int x2_244_1), none, none, none] [] h244_1 (some (.ok (x2_244_1, h244_1))) Q1 := hK1
    have ih1 : ∀ (n : Nat) (x2_51 : Int32) (h_51 : e_H), Sx K cX6_read 51 [some (.ref a0), none, some (.int x2_51), none, none, none] [] h_51 (lp_X6_read_51 F A a0 n x2_51 h_51) Q1 := by
      intro n
      induction n with
      | zero => intro x2_51 h_51; exact Sx.none
      | succ n ih1 =>
        intro x2_51 h_51
        rw [lp_X6_read_51.eq_2]
        refine S_aload_n (dc_X6_read 27 rfl) rfl ?_
        refine S_getI (dc_X6_read 28 rfl) ho fl_X6_46_4_3 (fun _ _ => rfl) (fun x52 e52 => ?_)
        refine S_if_eq 244 (dc_X6_read 29 rfl) rfl (fun c55 => ?_) (fun c55 => ?_)
        · refine Sx.cut [false, true, true, true, true, true] ?_
          exact hK1 x2_51 h_51
        · refine S_aload_n (dc_X6_read 30 rfl) rfl ?_
          refine S_ldcS (j := 3) hA (dc_X6_read 31 rfl) ho (List.mem_of_getElem? (i := 23) rfl) ?_
          refine S_roI (d := k_d K - 1) (e_callVU (b := a0) (x := ⟨"PegBands$BoardReader", "is", "(Ljava/lang/String;)Z"⟩) (owner := "PegBands$Reader") (As := [.ref (A 3)]) (rest := []) ok_X5_is rfl (Nat.le_of_ble_eq_true rfl) (dc_X6_read 32 rfl) ho q722 q723 (Or.inr ⟨rfl, q634⟩) (by decide) q634 rfl (show e_cl[4]? = some (RX6, TX6, 10) from rfl) (e_sel.of q725) (e_fI_of e52).1 rfl (Nat.le_of_ble_eq_true rfl)) (by omega) (fun _ e => ct_X5_is (by decide) hA (by omega) e) (fun x61 e61 => ?_)
          refine S_istore_n (L' := [some (.ref a0), none, some (.int x2_51), some (.int x61), none, none]) (dc_X6_read 33 rfl) rfl ?_
          refine S_aload_n (dc_X6_read 34 rfl) rfl ?_
          refine S_ldcS (j := 2) hA (dc_X6_read 35 rfl) ho (List.mem_of_getElem? (i := 24) rfl) ?_
          refine S_roI (d := k_d K - 1) (e_callVU (b := a0) (x := ⟨"PegBands$BoardReader", "is", "(Ljava/lang/String;)Z"⟩) (owner := "PegBands$Reader") (As := [.ref (A 2)]) (rest := []) ok_X5_is rfl (Nat.le_of_ble_eq_true rfl) (dc_X6_read 36 rfl) ho q722 q723 (Or.inr ⟨rfl, q634⟩) (by decide) q634 rfl (show e_cl[4]? = some (RX6, TX6, 10) from rfl) (e_sel.of q725) (e_fI_of e52).1 rfl (Nat.le_of_ble_eq_true rfl)) (by omega) (fun _ e => ct_X5_is (by decide) hA (by omega) e) (fun x68 e68 => ?_)
          refine S_istore (L' := [some (.ref a0), none, some (.int x2_51), some (.int x61), some (.int x68), none]) (dc_X6_read 37 rfl) rfl ?_
          refine S_aload_n (dc_X6_read 38 rfl) rfl ?_
          refine S_ldcS (j := 1) hA (dc_X6_read 39 rfl) ho (List.mem_of_getElem? (i := 25) rfl) ?_
          refine S_roI (d := k_d K - 1) (e_callVU (b := a0) (x := ⟨"PegBands$BoardReader", "is", "(Ljava/lang/String;)Z"⟩) (owner := "PegBands$Reader") (As := [.ref (A 1)]) (rest := []) ok_X5_is rfl (Nat.le_of_ble_eq_true rfl) (dc_X6_read 40 rfl) ho q722 q723 (Or.inr ⟨rfl, q634⟩) (by decide) q634 rfl (show e_cl[4]? = some (RX6, TX6, 10) from rfl) (e_sel.of q725) (e_fI_of e52).1 rfl (Nat.le_of_ble_eq_true rfl)) (by omega) (fun _ e => ct_X5_is (by decide) hA (by omega) e) (fun x76 e76 => ?_)
          refine S_istore (L' := [some (.ref a0), none, some (.int x2_51), some (.int x61), some (.int x68), some (.int x76)]) (dc_X6_read 41 rfl) rfl ?_
          refine S_aload_n (dc_X6_read 42 rfl) rfl ?_
          refine S_iload_n (dc_X6_read 43 rfl) rfl ?_
          refine Sx.regK1 (pc2 := 101) (L2 := fun (s101_2 : Int32) => [some (.ref a0), none, some (.int x2_51), some (.int x61), some (.int x68), some (.int x76)]) (st2 := fun (s101_2 : Int32) => [.int s101_2, .ref a0]) (h2 := fun (s101_2 : Int32) => h_51) ?_ (fun Q2 hK2 => ?_)
          · intro s101_2
            show Sx K cX6_read 101 [some (.ref a0), none, some (.int x2_51), some (.int x61), some (.int x68), some (.int x76)] [.int s101_2, .ref a0] h_51 _ _
            refine S_iconst_ 1 (dc_X6_read 52 rfl) rfl ?_
            refine S_exV (d := k_d K - 1) (e_callVU (b := a0) (x := ⟨"PegBands$BoardReader", "must", "(ZI)V"⟩) (owner := "PegBands$Reader") (As := [.int s101_2, .int 1]) (rest := []) ok_X5_must rfl (Nat.le_of_ble_eq_true rfl) (dc_X6_read 53 rfl) ho q728 q729 (Or.inr ⟨rfl, q689⟩) (by decide) q689 rfl (show e_cl[4]? = some (RX6, TX6, 10) from rfl) (e_sel.of q731) (e_fI_of e52).1 rfl (Nat.le_of_ble_eq_true rfl)) (by omega) (fun _ _ e => ct_X5_must (by decide) (by omega) e) (fun z102 h102 e102 => ?_) (fun _ h102 e102 => ?_)
            · refine SxX.err hE1 ?_
              exact SxX.out (hX _) (fun q => by cases q; exact hr)
            refine S_aload_n (dc_X6_read 54 rfl) rfl ?_
            refine S_iload (dc_X6_read 55 rfl) rfl ?_
            refine Sx.regK1 (pc2 := 141) (L2 := fun (s141_4 : Int32) => [some (.ref a0), none, some (.int x2_51), some (.int x61), some (.int x68), some (.int x76)]) (st2 := fun (s141_4 : Int32) => [.int s141_4, .ref a0]) (h2 := fun (s141_4 : Int32) => h102) ?_ (fun Q4 hK4 => ?_)
            · intro s141_4
              show Sx K cX6_read 141 [some (.ref a0), none, some (.int x2_51), some (.int x61), some (.int x68), some (.int x76)] [.int s141_4, .ref a0] h102 _ _
              refine S_iconst_ 3 (dc_X6_read 70 rfl) rfl ?_
              refine Sx.ask (fun _ i142 => ?_)
              refine S_exV (d := k_d K - 1) (e_callVU (b := a0) (x := ⟨"PegBands$BoardReader", "must", "(ZI)V"⟩) (owner := "PegBands$Reader") (As := [.int s141_4, .int 3]) (rest := []) ok_X5_must rfl (Nat.le_of_ble_eq_true rfl) (dc_X6_read 71 rfl) ho q728 q729 (Or.inr ⟨rfl, q689⟩) (by decide) q689 rfl (show e_cl[4]? = some (RX6, TX6, 10) from rfl) (e_sel.of q731) (e_is_of i142) rfl (Nat.le_of_ble_eq_true rfl)) (by omega) (fun _ _ e => ct_X5_must (by decide) (by omega) e) (fun z142 h142 e142 => ?_) (fun _ h142 e142 => ?_)
              · refine SxX.err hE1 ?_
                exact SxX.out (hX _) (fun q => by cases q; exact hr)
              refine S_aload_n (dc_X6_read 72 rfl) rfl ?_
              refine S_iload_n (dc_X6_read 73 rfl) rfl ?_
              refine Sx.regK1 (pc2 := 192) (L2 := fun (s192_8 : Int32) => [some (.ref a0), none, some (.int x2_51), none, some (.int x68), some (.int x76)]) (st2 := fun (s192_8 : Int32) => [.int s192_8, .ref a0]) (h2 := fun (s192_8 : Int32) => h142) ?_ (fun Q8 hK8 => ?_)
              · intro s192_8
                show Sx K cX6_read 192 [some (.ref a0), none, some (.int x2_51), none, some (.int x68), some (.int x76)] [.int s192_8, .ref a0] h142 _ _
                refine S_iconst_ 4 (dc_X6_read 94 rfl) rfl ?_
                refine Sx.ask (fun _ i193 => ?_)
                refine S_exV (d := k_d K - 1) (e_callVU (b := a0) (x := ⟨"PegBands$BoardReader", "must", "(ZI)V"⟩) (owner := "PegBands$Reader") (As := [.int s192_8, .int 4]) (rest := []) ok_X5_must rfl (Nat.le_of_ble_eq_true rfl) (dc_X6_read 95 rfl) ho q728 q729 (Or.inr ⟨rfl, q689⟩) (by decide) q689 rfl (show e_cl[4]? = some (RX6, TX6, 10) from rfl) (e_sel.of q731) (e_is_of i193) rfl (Nat.le_of_ble_eq_true rfl)) (by omega) (fun _ _ e => ct_X5_must (by decide) (by omega) e) (fun z193 h193 e193 => ?_) (fun _ h193 e193 => ?_)
                · refine SxX.err hE1 ?_
                  exact SxX.out (hX _) (fun q => by cases q; exact hr)
                refine S_aload_n (dc_X6_read 96 rfl) rfl ?_
                refine Sx.ask (fun _ i197 => ?_)
                refine S_rwV (d := k_d K - 1) (e_callVU (b := a0) (x := ⟨"PegBands$BoardReader", "next", "()V"⟩) (owner := "PegBands$Reader") (As := []) (rest := []) ok_X5_next rfl (Nat.le_of_ble_eq_true rfl) (dc_X6_read 97 rfl) ho q732 q733 (Or.inr ⟨rfl, q601⟩) (by decide) q601 rfl (show e_cl[4]? = some (RX6, TX6, 10) from rfl) (e_sel.of q735) (e_is_of i197) rfl (Nat.le_of_ble_eq_true rfl)) (by omega) (fun _ e => ct_X5_next (by decide) (by omega) e) (fun h197 e197 => ?_)
                refine S_iload (dc_X6_read 98 rfl) rfl ?_
                refine Sx.regKE1 (pc2 := 232) (L2 := fun (h232_10 : e_H) => [some (.ref a0), none, some (.int x2_51), none, none, none]) (st2 := fun (h232_10 : e_H) => []) (h2 := fun (h232_10 : e_H) => h232_10) ?_ (fun Q10 hK10 hE10 => ?_)
                · intro h232_10
                  show Sx K cX6_read 232 [some (.ref a0), none, some (.int x2_51), none, none, none] [] h232_10 _ _
                  refine S_aload_n (dc_X6_read 112 rfl) rfl ?_
                  refine S_bipush_ 59 (dc_X6_read 113 rfl) rfl ?_
                  refine Sx.ask (fun _ i235 => ?_)
                  refine S_exV (d := k_d K - 1) (e_callVU (b := a0) (x := ⟨"PegBands$BoardReader", "sign", "(I)V"⟩) (owner := "PegBands$Reader") (As := [.int 59]) (rest := []) ok_X5_sign rfl (Nat.le_of_ble_eq_true rfl) (dc_X6_read 114 rfl) ho q708 q709 (Or.inr ⟨rfl, q712⟩) (by decide) q712 rfl (show e_cl[4]? = some (RX6, TX6, 10) from rfl) (e_sel.of q711) (e_is_of i235) rfl (Nat.le_of_ble_eq_true rfl)) (by omega) (fun _ _ e => ct_X5_sign (by decide) (by omega) e) (fun z235 h235 e235 => ?_) (fun _ h235 e235 => ?_)
                  · refine SxX.err hE1 ?_
                    exact SxX.out (hX _) (fun q => by cases q; exact hr)
                  refine S_iincN 1 (L' := fun x238 => [some (.ref a0), none, some (.int x238), none, none, none]) (dc_X6_read 115 rfl) rfl rfl (fun _ => rfl) (fun x238 n238 => ?_)
                  refine S_goto 51 (dc_X6_read 116 rfl) rfl ?_
                  exact ih1 x238 h235
                · have hK10 : ∀ (h232_10 : e_H), Sx K cX6_read 232 [some (.ref a0), none, some (.int x2_51), none, none, none] [] h232_10 (some (.ok h232_10)) Q10 := hK10
                  refine S_if_eq 216 (dc_X6_read 99 rfl) rfl (fun c202 => ?_) (fun c202 => ?_)
                  · refine S_iload (dc_X6_read 105 rfl) rfl ?_
                    refine S_if_eq 228 (dc_X6_read 106 rfl) rfl (fun c218 => ?_) (fun c218 => ?_)
                    · refine S_aload_n (dc_X6_read 110 rfl) rfl ?_
                      refine Sx.ask (fun _ i229 => ?_)
                      refine S_exV (d := k_d K - 1) (e_callV (b := a0) (As := []) (rest := []) ok_X6_band rfl (Nat.le_of_ble_eq_true rfl) (dc_X6_read 111 rfl) ho q740 q742 (show e_cl[4]? = some (RX6, TX6, 10) from rfl) (e_sel.of qs4) (e_is_of i229) rfl (Nat.le_of_ble_eq_true rfl)) (by omega) (fun _ _ e => ct_X6_band hA (by omega) e) (fun z229 h229 e229 => ?_) (fun _ h229 e229 => ?_)
                      · refine SxX.err hE10 ?_
                        refine SxX.err hE1 ?_
                        exact SxX.out (hX _) (fun q => by cases q; exact hr)
                      refine Sx.cut [true, true, true, true, false, false] ?_
                      exact hK10 h229
                    · refine S_aload_n (dc_X6_read 107 rfl) rfl ?_
                      refine Sx.ask (fun _ i222 => ?_)
                      refine S_exV (d := k_d K - 1) (e_callV (b := a0) (As := []) (rest := []) ok_X6_out rfl (Nat.le_of_ble_eq_true rfl) (dc_X6_read 108 rfl) ho q736 q738 (show e_cl[4]? = some (RX6, TX6, 10) from rfl) (e_sel.of qs3) (e_is_of i222) rfl (Nat.le_of_ble_eq_true rfl)) (by omega) (fun _ _ e => ct_X6_out (by omega) e) (fun z222 h222 e222 => ?_) (fun _ h222 e222 => ?_)
                      · refine SxX.err hE10 ?_
                        refine SxX.err hE1 ?_
                        exact SxX.out (hX _) (fun q => by cases q; exact hr)
                      refine S_goto 232 (dc_X6_read 109 rfl) rfl ?_
                      refine Sx.cut [true, true, true, true, false, false] ?_
                      exact hK10 h222
                  · refine S_aload_n (dc_X6_read 100 rfl) rfl ?_
                    refine S_getA (dc_X6_read 101 rfl) ho fl_X6_15_4_8 (fun _ _ => rfl) (fun x206 e206 => ?_)
                    refine S_iconst_ 1 (dc_X6_read 102 rfl) rfl ?_
                    refine S_putI (dc_X6_read 103 rfl) ho fl_X6_63_2_6 (fun _ _ => rfl) (Or.inl rfl) rfl rfl (fun h210 e210 => ?_)
                    refine S_goto 232 (dc_X6_read 104 rfl) rfl ?_
                    refine Sx.cut [true, true, true, true, false, false] ?_
                    exact hK10 h210
              · have hK8 : ∀ (s192_8 : Int32), Sx K cX6_read 192 [some (.ref a0), none, some (.int x2_51), none, some (.int x68), some (.int x76)] [.int s192_8, .ref a0] h142 (some s192_8) Q8 := hK8
                refine S_if_eq 170 (dc_X6_read 74 rfl) rfl (fun c147 => ?_) (fun c147 => ?_)
                · refine S_iload (dc_X6_read 84 rfl) rfl ?_
                  refine Sx.regKE0 (pc2 := 187) (L2 := [some (.ref a0), none, some (.int x2_51), none, some (.int x68), some (.int x76)]) (st2 := [.ref a0]) (h2 := h142) ?_ (fun Q9 hK9 hE9 => ?_)
                  · skip
                    refine S_iconst_ 1 (dc_X6_read 91 rfl) rfl ?_
                    refine S_goto 192 (dc_X6_read 92 rfl) rfl ?_
                    exact hK8 1
                  · have hK9 : Sx K cX6_read 187 [some (.ref a0), none, some (.int x2_51), none, some (.int x68), some (.int x76)] [.ref a0] h142 (some (.ok ())) Q9 := hK9
                    refine S_if_eq 187 (dc_X6_read 85 rfl) rfl (fun c172 => ?_) (fun c172 => ?_)
                    · refine Sx.cut [true, true, true, false, true, true] ?_
                      exact hK9
                    · refine S_aload_n (dc_X6_read 86 rfl) rfl ?_
                      refine S_getA (dc_X6_read 87 rfl) ho fl_X6_15_4_8 (fun _ _ => rfl) (fun x176 e176 => ?_)
                      refine S_getI (dc_X6_read 88 rfl) ho fl_X6_69_2_5 (fun _ _ => rfl) (fun x179 e179 => ?_)
                      refine S_bipush_ 12 (dc_X6_read 89 rfl) rfl ?_
                      refine S_icmp_ge 191 (dc_X6_read 90 rfl) rfl (fun c184 => ?_) (fun c184 => ?_)
                      · refine S_iconst_ 0 (dc_X6_read 93 rfl) rfl ?_
                        refine Sx.cut [true, true, true, false, true, true] ?_
                        refine Sx.err hE9 ?_
                        exact hK8 0
                      · refine Sx.cut [true, true, true, false, true, true] ?_
                        exact hK9
                · refine S_aload_n (dc_X6_read 75 rfl) rfl ?_
                  refine S_getA (dc_X6_read 76 rfl) ho fl_X6_15_4_8 (fun _ _ => rfl) (fun x151 e151 => ?_)
                  refine S_getI (dc_X6_read 77 rfl) ho fl_X6_66_2_4 (fun _ _ => rfl) (fun x154 e154 => ?_)
                  refine S_bipush_ 8 (dc_X6_read 78 rfl) rfl ?_
                  refine S_icmp_ge 166 (dc_X6_read 79 rfl) rfl (fun c159 => ?_) (fun c159 => ?_)
                  · refine S_iconst_ 0 (dc_X6_read 82 rfl) rfl ?_
                    refine S_goto 192 (dc_X6_read 83 rfl) rfl ?_
                    refine Sx.cut [true, true, true, false, true, true] ?_
                    exact hK8 0
                  · refine S_iconst_ 1 (dc_X6_read 80 rfl) rfl ?_
                    refine S_goto 192 (dc_X6_read 81 rfl) rfl ?_
                    refine Sx.cut [true, true, true, false, true, true] ?_
                    exact hK8 1
            · have hK4 : ∀ (s141_4 : Int32), Sx K cX6_read 141 [some (.ref a0), none, some (.int x2_51), some (.int x61), some (.int x68), some (.int x76)] [.int s141_4, .ref a0] h102 (some s141_4) Q4 := hK4
              refine Sx.regKE0 (pc2 := 140) (L2 := [some (.ref a0), none, some (.int x2_51), some (.int x61), some (.int x68), some (.int x76)]) (st2 := [.ref a0]) (h2 := h102) ?_ (fun Q5 hK5 hE5 => ?_)
              · skip
                refine S_iconst_ 0 (dc_X6_read 69 rfl) rfl ?_
                exact hK4 0
              · have hK5 : Sx K cX6_read 140 [some (.ref a0), none, some (.int x2_51), some (.int x61), some (.int x68), some (.int x76)] [.ref a0] h102 (some (.ok ())) Q5 := hK5
                refine Sx.regKE0 (pc2 := 121) (L2 := [some (.ref a0), none, some (.int x2_51), some (.int x61), some (.int x68), some (.int x76)]) (st2 := [.ref a0]) (h2 := h102) ?_ (fun Q6 hK6 hE6 => ?_)
                · skip
                  refine S_iload (dc_X6_read 61 rfl) rfl ?_
                  refine Sx.regKE0 (pc2 := 136) (L2 := [some (.ref a0), none, some (.int x2_51), some (.int x61), some (.int x68), some (.int x76)]) (st2 := [.ref a0]) (h2 := h102) ?_ (fun Q7 hK7 hE7 => ?_)
                  · skip
                    refine S_iconst_ 1 (dc_X6_read 67 rfl) rfl ?_
                    refine S_goto 141 (dc_X6_read 68 rfl) rfl ?_
                    refine Sx.err hE5 ?_
                    exact hK4 1
                  · have hK7 : Sx K cX6_read 136 [some (.ref a0), none, some (.int x2_51), some (.int x61), some (.int x68), some (.int x76)] [.ref a0] h102 (some (.ok ())) Q7 := hK7
                    refine S_if_eq 136 (dc_X6_read 62 rfl) rfl (fun c123 => ?_) (fun c123 => ?_)
                    · exact hK7
                    · refine S_aload_n (dc_X6_read 63 rfl) rfl ?_
                      refine S_getA (dc_X6_read 64 rfl) ho fl_X6_15_4_8 (fun _ _ => rfl) (fun x127 e127 => ?_)
                      refine S_getI (dc_X6_read 65 rfl) ho fl_X6_66_2_4 (fun _ _ => rfl) (fun x130 e130 => ?_)
                      refine S_if_gt 140 (dc_X6_read 66 rfl) rfl (fun c133 => ?_) (fun c133 => ?_)
                      · refine Sx.err hE7 ?_
                        exact hK5
                      · exact hK7
                · have hK6 : Sx K cX6_read 121 [some (.ref a0), none, some (.int x2_51), some (.int x61), some (.int x68), some (.int x76)] [.ref a0] h102 (some (.ok ())) Q6 := hK6
                  refine S_if_eq 121 (dc_X6_read 56 rfl) rfl (fun c108 => ?_) (fun c108 => ?_)
                  · exact hK6
                  · refine S_aload_n (dc_X6_read 57 rfl) rfl ?_
                    refine S_getA (dc_X6_read 58 rfl) ho fl_X6_15_4_8 (fun _ _ => rfl) (fun x112 e112 => ?_)
                    refine S_getI (dc_X6_read 59 rfl) ho fl_X6_63_2_6 (fun _ _ => rfl) (fun x115 e115 => ?_)
                    refine S_if_ne 140 (dc_X6_read 60 rfl) rfl (fun c118 => ?_) (fun c118 => ?_)
                    · refine Sx.err hE6 ?_
                      exact hK5
                    · exact hK6
          · have hK2 : ∀ (s101_2 : Int32), Sx K cX6_read 101 [some (.ref a0), none, some (.int x2_51), some (.int x61), some (.int x68), some (.int x76)] [.int s101_2, .ref a0] h_51 (some s101_2) Q2 := hK2
            refine Sx.regKE0 (pc2 := 96) (L2 := [some (.ref a0), none, some (.int x2_51), some (.int x61), some (.int x68), some (.int x76)]) (st2 := [.ref a0]) (h2 := h_51) ?_ (fun Q3 hK3 hE3 => ?_)
            · skip
              refine S_iconst_ 1 (dc_X6_read 49 rfl) rfl ?_
              refine S_goto 101 (dc_X6_read 50 rfl) rfl ?_
              exact hK2 1
            · have hK3 : Sx K cX6_read 96 [some (.ref a0), none, some (.int x2_51), some (.int x61), some (.int x68), some (.int x76)] [.ref a0] h_51 (some (.ok ())) Q3 := hK3
              refine S_if_ne 96 (dc_X6_read 44 rfl) rfl (fun c83 => ?_) (fun c83 => ?_)
              · exact hK3
              · refine S_iload (dc_X6_read 45 rfl) rfl ?_
                refine S_if_ne 96 (dc_X6_read 46 rfl) rfl (fun c88 => ?_) (fun c88 => ?_)
                · exact hK3
                · refine S_iload (dc_X6_read 47 rfl) rfl ?_
                  refine S_if_eq 100 (dc_X6_read 48 rfl) rfl (fun c93 => ?_) (fun c93 => ?_)
                  · refine S_iconst_ 0 (dc_X6_read 51 rfl) rfl ?_
                    refine Sx.err hE3 ?_
                    exact hK2 0
                  · exact hK3
    refine Sx.cut [true, false, true, true, true, true] ?_
    exact ih1 F 1 h46
abbrev cX1_isBand : ByteArray := prog_1_method_17_code
def yX1_isBand : MethodName := ⟨"PegBands", "isBand", "(I)Z"⟩
def tb_X1_isBand : List (Nat × Instr × Nat) := [(0, .iload_n 1, 1), (1, .iconst 0, 1), (2, .aload_n 0, 1), (3, .getfield 63, 3), (6, .getfield 234, 3), (9, .iconst 1, 1), (10, .isub, 1), (11, .invokestatic 187, 3), (14, .ireturn, 1)]
theorem tk_X1_isBand : ∀ q ∈ tb_X1_isBand, decode cX1_isBand q.1 = .ok q.2 := by decide +kernel
theorem dc_X1_isBand (k : Nat) {pc n : Nat} {i : Instr} (h : tb_X1_isBand[k]? = some (pc, i, n)) : decode cX1_isBand pc = .ok (i, n) := tk_X1_isBand (pc, i, n) (List.mem_of_getElem? h)
abbrev mX1_isBand : e_M := (yX1_isBand, cX1_isBand, 2, some (.boolean), [])
theorem ok_X1_isBand : e_mok mX1_isBand 1 := ⟨q862, q108, by decide +kernel, fun sig h => by cases h; rfl⟩
theorem fl_X1_63_0_6 : e_FL "PegBands" 63 0 6 := ⟨_, rfl, by decide, Or.inl q459⟩
theorem fl_X1_234_2_4 : e_FL "PegBands" 234 2 4 := ⟨_, rfl, by decide, Or.inr (Or.inr (Or.inl ⟨_, q260⟩))⟩
def f_X1_isBand (h : e_H) (a0 : Nat) (a1 : Int32) : Option Int32 :=
  Option.bind (e_fA h a0 0 6) (fun x3 =>
  Option.bind (e_fI h x3 2 4) (fun x6 =>
  Option.bind (f_X1_isIn a1 0 (x6 - 1)) (fun x11 =>
  if x11 = 0 ∨ x11 = 1 then some x11 else none)))
set_option maxHeartbeats 4000000 in
set_option maxRecDepth 100000 in
theorem ct_X1_isBand {l : Launch} {D : e_D} {B : Heap} {d : Nat} {h : e_H} {a0 : Nat} {a1 : Int32} {v : Int32} (hd : 2 ≤ d) (e : f_X1_isBand h a0 a1 = some v) : e_Run l D B d mX1_isBand [.ref a0, .int a1] h (.ok (some (.int v)), h) := by
  refine e_start [some (.ref a0), some (.int a1)] (by decide) rfl rfl rfl (Nat.le_of_ble_eq_true rfl) (fun K hl0 hD0 hB0 hM hd0 hr => ?_)
  subst hl0 hD0 hB0 hd0
  have ho : (k_M K).1.cls = "PegBands" := by rw [hM]; rfl
  have hT : (k_M K).2.2.2.1 = some (.boolean) := by rw [hM]
  refine (show Sx K cX1_isBand 0 [some (.ref a0), some (.int a1)] [] h (f_X1_isBand h a0 a1) (fun w => w = v) from ?_) _ e rfl
  clear e
  unfold f_X1_isBand
  refine S_iload_n (dc_X1_isBand 0 rfl) rfl ?_
  refine S_iconst_ 0 (dc_X1_isBand 1 rfl) rfl ?_
  refine S_aload_n (dc_X1_isBand 2 rfl) rfl ?_
  refine S_getA (dc_X1_isBand 3 rfl) ho fl_X1_63_0_6 (fun _ _ => rfl) (fun x3 e3 => ?_)
  refine S_getI (dc_X1_isBand 4 rfl) ho fl_X1_234_2_4 (fun _ _ => rfl) (fun x6 e6 => ?_)
  refine S_iconst_ 1 (dc_X1_isBand 5 rfl) rfl ?_
  refine S_isub (dc_X1_isBand 6 rfl) ?_
  refine S_roI (d := k_d K - 1) (e_callS (As := [.int a1, .int 0, .int (x6 - 1)]) (rest := []) ok_X1_isIn rfl (Nat.le_of_ble_eq_true rfl) (dc_X1_isBand 7 rfl) ho q825 q616 rfl (Nat.le_of_ble_eq_true rfl)) (by omega) (fun _ e => ct_X1_isIn (by omega) e) (fun x11 e11 => ?_)
  refine Sx.cond (fun c14 => ?_)
  exact S_iret (dc_X1_isBand 8 rfl) hT (e_narZ c14).1 (fun q => by cases q; exact hr)
abbrev cX1_band : ByteArray := prog_1_method_19_code
def yX1_band : MethodName := ⟨"PegBands", "band", "(II)I"⟩
def tb_X1_band : List (Nat × Instr × Nat) := [(0, .aload_n 0, 1), (1, .iload_n 1, 1), (2, .invokevirtual 241, 3), (5, .ifCond .eq 17, 3), (8, .iload_n 2, 1), (9, .iconst 0, 1), (10, .bipush 6, 2), (12, .invokestatic 187, 3), (15, .ifCond .eq 7, 3), (18, .iconst 1, 1), (19, .goto 4, 3), (22, .iconst 0, 1), (23, .invokestatic 244, 3), (26, .aload_n 0, 1), (27, .getfield 63, 3), (30, .getfield 248, 3), (33, .iload_n 1, 1), (34, .aaload, 1), (35, .astore_n 3, 1), (36, .iload_n 2, 1), (37, .tableswitch 72 0 5 #[39, 44, 52, 57, 62, 67], 39), (76, .aload_n 3, 1), (77, .getfield 251, 3), (80, .ireturn, 1), (81, .aload_n 3, 1), (82, .invokevirtual 252, 3), (85, .invokestatic 167, 3), (88, .ireturn, 1), (89, .aload_n 3, 1), (90, .invokevirtual 255, 3), (93, .ireturn, 1), (94, .aload_n 3, 1), (95, .invokevirtual 257, 3), (98, .ireturn, 1), (99, .aload_n 3, 1), (100, .invokevirtual 259, 3), (103, .ireturn, 1), (104, .aload_n 3, 1), (105, .invokevirtual 261, 3), (108, .ireturn, 1), (109, .iconst 0, 1), (110, .istore 4, 2), (112, .iconst 0, 1), (113, .istore 5, 2), (115, .iload 5, 2), (117, .aload_n 0, 1), (118, .getfield 63, 3), (121, .getfield 234, 3), (124, .if_icmp .ge 35, 3), (127, .iload 5, 2), (129, .iload_n 1, 1), (130, .if_icmp .eq 23, 3), (133, .iload 4, 2), (135, .aload_n 3, 1), (136, .aload_n 0, 1), (137, .getfield 63, 3), (140, .getfield 248, 3), (143, .iload 5, 2), (145, .aaload, 1), (146, .iconst 1, 1), (147, .invokevirtual 263, 3), (150, .iadd, 1), (151, .istore 4, 2), (153, .iinc 5 1, 3), (156, .goto (-41), 3), (159, .iload 4, 2), (161, .ireturn, 1)]
theorem tk_X1_band : ∀ q ∈ tb_X1_band, decode cX1_band q.1 = .ok q.2 := by decide +kernel
theorem dc_X1_band (k : Nat) {pc n : Nat} {i : Instr} (h : tb_X1_band[k]? = some (pc, i, n)) : decode cX1_band pc = .ok (i, n) := tk_X1_band (pc, i, n) (List.mem_of_getElem? h)
abbrev mX1_band : e_M := (yX1_band, cX1_band, 6, some (.int), [])
theorem ok_X1_band : e_mok mX1_band 2 := ⟨q1435, q108, by decide +kernel, fun sig h => by cases h; rfl⟩
theorem fl_X1_248_2_0 : e_FL "PegBands" 248 2 0 := ⟨_, rfl, by decide, Or.inr (Or.inr (Or.inl ⟨_, q244⟩))⟩
def lp_X1_band_115 (F : Nat) (h23 : e_H) (a0 : Nat) (a1 : Int32) (x34 : Nat) : Nat → Int32 → Int32 → Option (Int32)
  | 0, _, _ => none
  | n + 1, x4_115, x5_115 =>
    Option.bind (e_fA h23 a0 0 6) (fun x118 =>
    Option.bind (e_fI h23 x118 2 4) (fun x121 =>
    if x121 ≤ x5_115 then
      some x4_115
    else
      Option.bind (
          if x5_115 = a1 then
            some x4_115
          else
            Option.bind (e_fA h23 a0 0 6) (fun x137 =>
            Option.bind (e_fA h23 x137 2 0) (fun x140 =>
            Option.bind (e_aA h23 x140 4 x5_115) (fun x145 =>
            Option.bind (e_is h23 x34 6) (fun _ =>
            Option.bind (f_X8_meetings F h23 x34 x145 1) (fun x147 =>
            Option.bind (some (x4_115 + x147)) (fun x151 =>
            some x151))))))
        : Option (Int32)) (fun x4_153_4 =>
      Option.bind (some (x5_115 + 1)) (fun x153 =>
      lp_X1_band_115 F h23 a0 a1 x34 n x4_153_4 x153))))
def f_X1_band (F : Nat) (h : e_H) (a0 : Nat) (a1 : Int32) (a2 : Int32) : Option (Except (Nat × Nat) Int32 × e_H) :=
  Option.bind (e_is h a0 0) (fun _ =>
  Option.bind (f_X1_isBand h a0 a1) (fun x2 =>
  Option.bind (
      e_bE (
          if x2 = 0 then
            some (.ok ())
          else
            Option.bind (f_X1_isIn a2 0 6) (fun x12 =>
            if x12 = 0 then
              some (.ok ())
            else
              some (.error 1))
        : Option (Except Int32 Unit)) (fun _ =>
      some 0)
    : Option (Int32)) (fun s23_1 =>
  e_b3 (f_X1_must h s23_1) (fun z23 h23 =>
      some (.error z23, h23)) (fun _ h23 =>
  Option.bind (e_fA h23 a0 0 6) (fun x27 =>
  Option.bind (e_fA h23 x27 2 0) (fun x30 =>
  Option.bind (e_aA h23 x30 4 a1) (fun x34 =>
  if a2 = 0 then
    Option.bind (e_fI h23 x34 6 2) (fun x77 =>
    some (.ok x77, h23))
  else
  if a2 = 1 then
    Option.bind (e_is h23 x34 6) (fun _ =>
    Option.bind (f_X8_area F h23 x34) (fun x82 =>
    some (.ok (if 0 ≤ x82 then x82 else 0 - x82), h23)))
  else
  if a2 = 2 then
    Option.bind (e_is h23 x34 6) (fun _ =>
    Option.bind (f_X8_on F h23 x34) (fun x90 =>
    some (.ok x90, h23)))
  else
  if a2 = 3 then
    Option.bind (e_is h23 x34 6) (fun _ =>
    Option.bind (f_X8_within F h23 x34) (fun x95 =>
    some (.ok x95, h23)))
  else
  if a2 = 4 then
    Option.bind (e_is h23 x34 6) (fun _ =>
    Option.bind (f_X8_bent F h23 x34) (fun x100 =>
    some (.ok x100, h23)))
  else
  if a2 = 5 then
    Option.bind (e_is h23 x34 6) (fun _ =>
    Option.bind (f_X8_right F h23 x34) (fun x105 =>
    some (.ok x105, h23)))
  else
    Option.bind (
        lp_X1_band_115 F h23 a0 a1 x34 F 0 0
      : Option (Int32)) (fun x4_159_3 =>
    some (.ok x4_159_3, h23)))))))))
set_option maxHeartbeats 4000000 in
set_option maxRecDepth 100000 in
theorem ct_X1_band {l : Launch} {D : e_D} {B : Heap} {F : Nat} {d : Nat} {h : e_H} {a0 : Nat} {a1 : Int32} {a2 : Int32} {o : Except (Nat × Nat) Int32} {h1 : e_H} (hl : l.stackTraces = false) (hd : 279 ≤ d) (e : f_X1_band F h a0 a1 a2 = some (o, h1)) : e_Run l D B d mX1_band [.ref a0, .int a1, .int a2] h (o.map (fun v => some (.int v)), h1) := by
  refine e_start [some (.ref a0), some (.int a1), some (.int a2), none, none, none] (by decide) rfl rfl rfl (Nat.le_of_ble_eq_true rfl) (fun K hl0 hD0 hB0 hM hd0 hr => ?_)
  subst hl0 hD0 hB0 hd0
  have ho : (k_M K).1.cls = "PegBands" := by rw [hM]; rfl
  have hT : (k_M K).2.2.2.1 = some (.int) := by rw [hM]
  have hX : ∀ pc, ∀ z ∈ tableOf (k_M K).2.2.2.2, covers z pc = false := by rw [hM]; intro pc z hz; cases hz
  refine (show Sx K cX1_band 0 [some (.ref a0), some (.int a1), some (.int a2), none, none, none] [] h (f_X1_band F h a0 a1 a2) (fun w => w = (o, h1)) from ?_) _ e rfl
  clear e
  unfold f_X1_band
  refine S_aload_n (dc_X1_band 0 rfl) rfl ?_
  refine S_iload_n (dc_X1_band 1 rfl) rfl ?_
  refine Sx.ask (fun _ i2 => ?_)
  refine S_roI (d := k_d K - 1) (e_callV (b := a0) (As := [.int a1]) (rest := []) ok_X1_isBand rfl (Nat.le_of_ble_eq_true rfl) (dc_X1_band 2 rfl) ho q859 q861 (show e_cl[0]? = some (RX1, TX1, 37) from rfl) (e_sel.of qs7) (e_is_of i2) rfl (Nat.le_of_ble_eq_true rfl)) (by omega) (fun _ e => ct_X1_isBand (by omega) e) (fun x2 e2 => ?_)
  refine Sx.regK1 (pc2 := 23) (L2 := fun (s23_1 : Int32) => [some (.ref a0), some (.int a1), some (.int a2), none, none, none]) (st2 := fun (s23_1 : Int32) => [.int s23_1]) (h2 := fun (s23_1 : Int32) => h) ?_ (fun Q1 hK1 => ?_)
  · intro s23_1
    show Sx K cX1_band 23 [some (.ref a0), some (.int a1), some (.int a2), none, none, none] [.int s23_1] h _ _
    refine S_exV (d := k_d K - 1) (e_callS (As := [.int s23_1]) (rest := []) ok_X1_must rfl (Nat.le_of_ble_eq_true rfl) (dc_X1_band 12 rfl) ho q1436 q1437 rfl (Nat.le_of_ble_eq_true rfl)) (by omega) (fun _ _ e => ct_X1_must hl (by omega) e) (fun z23 h23 e23 => ?_) (fun _ h23 e23 => ?_)
    · exact SxX.out (hX _) (fun q => by cases q; exact hr)
    refine S_aload_n (dc_X1_band 13 rfl) rfl ?_
    refine S_getA (dc_X1_band 14 rfl) ho fl_X1_63_0_6 (fun _ _ => rfl) (fun x27 e27 => ?_)
    refine S_getA (dc_X1_band 15 rfl) ho fl_X1_248_2_0 (fun _ _ => rfl) (fun x30 e30 => ?_)
    refine S_iload_n (dc_X1_band 16 rfl) rfl ?_
    refine S_aaldA4 (dc_X1_band 17 rfl) (fun x34 e34 => ?_)
    refine S_astore_n (L' := [some (.ref a0), some (.int a1), some (.int a2), some (.ref x34), none, none]) (dc_X1_band 18 rfl) rfl ?_
    refine S_iload_n (dc_X1_band 19 rfl) rfl ?_
    refine Sx.case (fun c37_0 => ?_) (fun c37_0 => ?_)
    · refine S_tsIn 76 c37_0 (dc_X1_band 20 rfl) (by decide) (by decide) rfl rfl ?_
      refine S_aload_n (dc_X1_band 21 rfl) rfl ?_
      refine S_getI (dc_X1_band 22 rfl) ho fl_X1_251_6_2 (fun _ _ => rfl) (fun x77 e77 => ?_)
      exact S_iret (dc_X1_band 23 rfl) hT rfl (fun q => by cases q; exact hr)
    refine Sx.case (fun c37_1 => ?_) (fun c37_1 => ?_)
    · refine S_tsIn 81 c37_1 (dc_X1_band 20 rfl) (by decide) (by decide) rfl rfl ?_
      refine S_aload_n (dc_X1_band 24 rfl) rfl ?_
      refine Sx.ask (fun _ i82 => ?_)
      refine S_roI (d := k_d K - 1) (e_callV (b := x34) (As := []) (rest := []) ok_X8_area rfl (Nat.le_of_ble_eq_true rfl) (dc_X1_band 25 rfl) ho q1118 q1119 (show e_cl[6]? = some (RX8, TX8, 4) from rfl) (e_sel.of q1120) (e_is_of i82) rfl (Nat.le_of_ble_eq_true rfl)) (by omega) (fun _ e => ct_X8_area (by omega) e) (fun x82 e82 => ?_)
      refine S_mabs (dc_X1_band 26 rfl) ho q1089 (by omega) (Nat.le_of_ble_eq_true rfl) ?_
      exact S_iret (dc_X1_band 27 rfl) hT rfl (fun q => by cases q; exact hr)
    refine Sx.case (fun c37_2 => ?_) (fun c37_2 => ?_)
    · refine S_tsIn 89 c37_2 (dc_X1_band 20 rfl) (by decide) (by decide) rfl rfl ?_
      refine S_aload_n (dc_X1_band 28 rfl) rfl ?_
      refine Sx.ask (fun _ i90 => ?_)
      refine S_roI (d := k_d K - 1) (e_callV (b := x34) (As := []) (rest := []) ok_X8_on rfl (Nat.le_of_ble_eq_true rfl) (dc_X1_band 29 rfl) ho q1122 q1123 (show e_cl[6]? = some (RX8, TX8, 4) from rfl) (e_sel.of q1124) (e_is_of i90) rfl (Nat.le_of_ble_eq_true rfl)) (by omega) (fun _ e => ct_X8_on (by omega) e) (fun x90 e90 => ?_)
      exact S_iret (dc_X1_band 30 rfl) hT rfl (fun q => by cases q; exact hr)
    refine Sx.case (fun c37_3 => ?_) (fun c37_3 => ?_)
    · refine S_tsIn 94 c37_3 (dc_X1_band 20 rfl) (by decide) (by decide) rfl rfl ?_
      refine S_aload_n (dc_X1_band 31 rfl) rfl ?_
      refine Sx.ask (fun _ i95 => ?_)
      refine S_roI (d := k_d K - 1) (e_callV (b := x34) (As := []) (rest := []) ok_X8_within rfl (Nat.le_of_ble_eq_true rfl) (dc_X1_band 32 rfl) ho q1130 q1131 (show e_cl[6]? = some (RX8, TX8, 4) from rfl) (e_sel.of q1132) (e_is_of i95) rfl (Nat.le_of_ble_eq_true rfl)) (by omega) (fun _ e => ct_X8_within (by omega) e) (fun x95 e95 => ?_)
      exact S_iret (dc_X1_band 33 rfl) hT rfl (fun q => by cases q; exact hr)
    refine Sx.case (fun c37_4 => ?_) (fun c37_4 => ?_)
    · refine S_tsIn 99 c37_4 (dc_X1_band 20 rfl) (by decide) (by decide) rfl rfl ?_
      refine S_aload_n (dc_X1_band 34 rfl) rfl ?_
      refine Sx.ask (fun _ i100 => ?_)
      refine S_roI (d := k_d K - 1) (e_callV (b := x34) (As := []) (rest := []) ok_X8_bent rfl (Nat.le_of_ble_eq_true rfl) (dc_X1_band 35 rfl) ho q1462 q1364 (show e_cl[6]? = some (RX8, TX8, 4) from rfl) (e_sel.of q1365) (e_is_of i100) rfl (Nat.le_of_ble_eq_true rfl)) (by omega) (fun _ e => ct_X8_bent (by omega) e) (fun x100 e100 => ?_)
      exact S_iret (dc_X1_band 36 rfl) hT rfl (fun q => by cases q; exact hr)
    refine Sx.case (fun c37_5 => ?_) (fun c37_5 => ?_)
    · refine S_tsIn 104 c37_5 (dc_X1_band 20 rfl) (by decide) (by decide) rfl rfl ?_
      refine S_aload_n (dc_X1_band 37 rfl) rfl ?_
      refine Sx.ask (fun _ i105 => ?_)
      refine S_roI (d := k_d K - 1) (e_callV (b := x34) (As := []) (rest := []) ok_X8_right rfl (Nat.le_of_ble_eq_true rfl) (dc_X1_band 38 rfl) ho q1463 q1360 (show e_cl[6]? = some (RX8, TX8, 4) from rfl) (e_sel.of q1361) (e_is_of i105) rfl (Nat.le_of_ble_eq_true rfl)) (by omega) (fun _ e => ct_X8_right (by omega) e) (fun x105 e105 => ?_)
      exact S_iret (dc_X1_band 39 rfl) hT rfl (fun q => by cases q; exact hr)
    refine S_tsOut 109 (dc_X1_band 20 rfl) (by have := e_neI (k := 0) c37_0 (by decide); have := e_neI (k := 1) c37_1 (by decide); have := e_neI (k := 2) c37_2 (by decide); have := e_neI (k := 3) c37_3 (by decide); have := e_neI (k := 4) c37_4 (by decide); have := e_neI (k := 5) c37_5 (by decide); omega) rfl ?_
    refine S_iconst_ 0 (dc_X1_band 40 rfl) rfl ?_
    refine S_istore (L' := [some (.ref a0), some (.int a1), some (.int a2), some (.ref x34), some (.int 0), none]) (dc_X1_band 41 rfl) rfl ?_
    refine S_iconst_ 0 (dc_X1_band 42 rfl) rfl ?_
    refine S_istore (L' := [some (.ref a0), some (.int a1), some (.int a2), some (.ref x34), some (.int 0), some (.int 0)]) (dc_X1_band 43 rfl) rfl ?_
    refine Sx.regK1 (pc2 := 159) (L2 := fun (x4_159_3 : Int32) => [none, none, none, none, some (.int x4_159_3), none]) (st2 := fun (x4_159_3 : Int32) => []) (h2 := fun (x4_159_3 : Int32) => h23) ?_ (fun Q3 hK3 => ?_)
    · intro x4_159_3
      show Sx K cX1_band 159 [none, none, none, none, some (.int x4_159_3), none] [] h23 _ _
      refine S_iload (dc_X1_band 65 rfl) rfl ?_
      exact S_iret (dc_X1_band 66 rfl) hT rfl (fun q => by cases q; exact hr)
    · have hK3 : ∀ (x4_159_3 : Int32), Sx K cX1_band 159 [none, none, none, none, some (.int x4_159_3), none] [] h23 (some x4_159_3) Q3 := hK3
      have ih3 : ∀ (n : Nat) (x4_115 : Int32) (x5_115 : Int32), Sx K cX1_band 115 [some (.ref a0), some (.int a1), none, some (.ref x34), some (.int x4_115), some (.int x5_115)] [] h23 (lp_X1_band_115 F h23 a0 a1 x34 n x4_115 x5_115) Q3 := by
        intro n
        induction n with
        | zero => intro x4_115 x5_115; exact Sx.none
        | succ n ih3 =>
          intro x4_115 x5_115
          rw [lp_X1_band_115.eq_2]
          refine S_iload (dc_X1_band 44 rfl) rfl ?_
          refine S_aload_n (dc_X1_band 45 rfl) rfl ?_
          refine S_getA (dc_X1_band 46 rfl) ho fl_X1_63_0_6 (fun _ _ => rfl) (fun x118 e118 => ?_)
          refine S_getI (dc_X1_band 47 rfl) ho fl_X1_234_2_4 (fun _ _ => rfl) (fun x121 e121 => ?_)
          refine S_icmp_ge 159 (dc_X1_band 48 rfl) rfl (fun c124 => ?_) (fun c124 => ?_)
          · refine Sx.cut [false, false, true, false, true, false] ?_
            exact hK3 x4_115
          · refine S_iload (dc_X1_band 49 rfl) rfl ?_
            refine S_iload_n (dc_X1_band 50 rfl) rfl ?_
            refine Sx.regK1 (pc2 := 153) (L2 := fun (x4_153_4 : Int32) => [some (.ref a0), some (.int a1), none, some (.ref x34), some (.int x4_153_4), some (.int x5_115)]) (st2 := fun (x4_153_4 : Int32) => []) (h2 := fun (x4_153_4 : Int32) => h23) ?_ (fun Q4 hK4 => ?_)
            · intro x4_153_4
              show Sx K cX1_band 153 [some (.ref a0), some (.int a1), none, some (.ref x34), some (.int x4_153_4), some (.int x5_115)] [] h23 _ _
              refine S_iincN 1 (L' := fun x153 => [some (.ref a0), some (.int a1), none, some (.ref x34), some (.int x4_153_4), some (.int x153)]) (dc_X1_band 63 rfl) rfl rfl (fun _ => rfl) (fun x153 n153 => ?_)
              refine S_goto 115 (dc_X1_band 64 rfl) rfl ?_
              exact ih3 x4_153_4 x153
            · have hK4 : ∀ (x4_153_4 : Int32), Sx K cX1_band 153 [some (.ref a0), some (.int a1), none, some (.ref x34), some (.int x4_153_4), some (.int x5_115)] [] h23 (some x4_153_4) Q4 := hK4
              refine S_icmp_eq 153 (dc_X1_band 51 rfl) rfl (fun c130 => ?_) (fun c130 => ?_)
              · exact hK4 x4_115
              · refine S_iload (dc_X1_band 52 rfl) rfl ?_
                refine S_aload_n (dc_X1_band 53 rfl) rfl ?_
                refine S_aload_n (dc_X1_band 54 rfl) rfl ?_
                refine S_getA (dc_X1_band 55 rfl) ho fl_X1_63_0_6 (fun _ _ => rfl) (fun x137 e137 => ?_)
                refine S_getA (dc_X1_band 56 rfl) ho fl_X1_248_2_0 (fun _ _ => rfl) (fun x140 e140 => ?_)
                refine S_iload (dc_X1_band 57 rfl) rfl ?_
                refine S_aaldA4 (dc_X1_band 58 rfl) (fun x145 e145 => ?_)
                refine S_iconst_ 1 (dc_X1_band 59 rfl) rfl ?_
                refine Sx.ask (fun _ i147 => ?_)
                refine S_roI (d := k_d K - 1) (e_callV (b := x34) (As := [.ref x145, .int 1]) (rest := [.int x4_115]) ok_X8_meetings rfl (Nat.le_of_ble_eq_true rfl) (dc_X1_band 60 rfl) ho q884 q831 (show e_cl[6]? = some (RX8, TX8, 4) from rfl) (e_sel.of q832) (e_is_of i147) rfl (Nat.le_of_ble_eq_true rfl)) (by omega) (fun _ e => ct_X8_meetings (by omega) e) (fun x147 e147 => ?_)
                refine S_iadd (dc_X1_band 61 rfl) ?_
                refine Sx.nameI (fun x151 n151 => ?_)
                refine S_istore (L' := [some (.ref a0), some (.int a1), none, some (.ref x34), some (.int x151), some (.int x5_115)]) (dc_X1_band 62 rfl) rfl ?_
                exact hK4 x151
      refine Sx.cut [true, true, false, true, true, true] ?_
      exact ih3 F 0 0
  · have hK1 : ∀ (s23_1 : Int32), Sx K cX1_band 23 [some (.ref a0), some (.int a1), some (.int a2), none, none, none] [.int s23_1] h (some s23_1) Q1 := hK1
    refine Sx.regKE0 (pc2 := 22) (L2 := [some (.ref a0), some (.int a1), some (.int a2), none, none, none]) (st2 := []) (h2 := h) ?_ (fun Q2 hK2 hE2 => ?_)
    · skip
      refine S_iconst_ 0 (dc_X1_band 11 rfl) rfl ?_
      exact hK1 0
    · have hK2 : Sx K cX1_band 22 [some (.ref a0), some (.int a1), some (.int a2), none, none, none] [] h (some (.ok ())) Q2 := hK2
      refine S_if_eq 22 (dc_X1_band 3 rfl) rfl (fun c5 => ?_) (fun c5 => ?_)
      · exact hK2
      · refine S_iload_n (dc_X1_band 4 rfl) rfl ?_
        refine S_iconst_ 0 (dc_X1_band 5 rfl) rfl ?_
        refine S_bipush_ 6 (dc_X1_band 6 rfl) rfl ?_
        refine S_roI (d := k_d K - 1) (e_callS (As := [.int a2, .int 0, .int 6]) (rest := []) ok_X1_isIn rfl (Nat.le_of_ble_eq_true rfl) (dc_X1_band 7 rfl) ho q825 q616 rfl (Nat.le_of_ble_eq_true rfl)) (by omega) (fun _ e => ct_X1_isIn (by omega) e) (fun x12 e12 => ?_)
        refine S_if_eq 22 (dc_X1_band 8 rfl) rfl (fun c15 => ?_) (fun c15 => ?_)
        · exact hK2
        · refine S_iconst_ 1 (dc_X1_band 9 rfl) rfl ?_
          refine S_goto 23 (dc_X1_band 10 rfl) rfl ?_
          refine Sx.err hE2 ?_
          exact hK1 1
abbrev cX0_band : ByteArray := method_3_code
def yX0_band : MethodName := ⟨"PegBandsLaw", "band", "(LPegBands;II[J)I"⟩
def tb_X0_band : List (Nat × Instr × Nat) := [(0, .aload_n 3, 1), (1, .iconst 0, 1), (2, .aload_n 0, 1), (3, .iload_n 1, 1), (4, .iload_n 2, 1), (5, .invokevirtual 7, 3), (8, .i2l, 1), (9, .lastore, 1), (10, .goto 7, 3), (13, .astore 4, 2), (15, .iconst 1, 1), (16, .ireturn, 1), (17, .iconst 0, 1), (18, .ireturn, 1)]
theorem tk_X0_band : ∀ q ∈ tb_X0_band, decode cX0_band q.1 = .ok q.2 := by decide +kernel
theorem dc_X0_band (k : Nat) {pc n : Nat} {i : Instr} (h : tb_X0_band[k]? = some (pc, i, n)) : decode cX0_band pc = .ok (i, n) := tk_X0_band (pc, i, n) (List.mem_of_getElem? h)
abbrev mX0_band : e_M := (yX0_band, cX0_band, 5, some (.int), [(0, 10, 13, 13)])
theorem ok_X0_band : e_mok mX0_band 4 := ⟨q1430, q107, by decide +kernel, fun sig h => by cases h; rfl⟩
def f_X0_band (F : Nat) (h : e_H) (a0 : Nat) (a1 : Int32) (a2 : Int32) (a3 : Nat) : Option (Int32 × e_H) :=
  Option.bind (e_is h a0 0) (fun _ =>
  e_b3 (f_X1_band F h a0 a1 a2) (fun z5 h5 =>
      if z5.1 = 1 then
        some (1, h5)
      else none) (fun x5 h5 =>
  Option.bind (e_wJ h5 a3 3 0 (x5.toInt64)) (fun h9 =>
  some (0, h9))))
set_option maxHeartbeats 4000000 in
set_option maxRecDepth 100000 in
theorem ct_X0_band {l : Launch} {D : e_D} {B : Heap} {F : Nat} {d : Nat} {h : e_H} {a0 : Nat} {a1 : Int32} {a2 : Int32} {a3 : Nat} {v : Int32} {h1 : e_H} (hl : l.stackTraces = false) (hd : 280 ≤ d) (e : f_X0_band F h a0 a1 a2 a3 = some (v, h1)) : e_Run l D B d mX0_band [.ref a0, .int a1, .int a2, .ref a3] h (.ok (some (.int v)), h1) := by
  refine e_startW [some (.ref a0), some (.int a1), some (.int a2), some (.ref a3), none] (by decide) rfl rfl rfl (Nat.le_of_ble_eq_true rfl) (fun K hl0 hD0 hB0 hM hd0 hr => ?_)
  subst hl0 hD0 hB0 hd0
  have ho : (k_M K).1.cls = "PegBandsLaw" := by rw [hM]; rfl
  have hT : (k_M K).2.2.2.1 = some (.int) := by rw [hM]
  refine (show Sx K cX0_band 0 [some (.ref a0), some (.int a1), some (.int a2), some (.ref a3), none] [] h (f_X0_band F h a0 a1 a2 a3) (fun w => w = (v, h1)) from ?_) _ e rfl
  clear e
  unfold f_X0_band
  refine S_aload_n (dc_X0_band 0 rfl) rfl ?_
  refine S_iconst_ 0 (dc_X0_band 1 rfl) rfl ?_
  refine S_aload_n (dc_X0_band 2 rfl) rfl ?_
  refine S_iload_n (dc_X0_band 3 rfl) rfl ?_
  refine S_iload_n (dc_X0_band 4 rfl) rfl ?_
  refine Sx.ask (fun _ i5 => ?_)
  refine S_exI (d := k_d K - 1) (e_callV (b := a0) (As := [.int a1, .int a2]) (rest := [.int 0, .ref a3]) ok_X1_band rfl (Nat.le_of_ble_eq_true rfl) (dc_X0_band 5 rfl) ho q1432 q1433 (show e_cl[0]? = some (RX1, TX1, 37) from rfl) (e_sel.of q1434) (e_is_of i5) rfl (Nat.le_of_ble_eq_true rfl)) (by omega) (fun _ _ e => ct_X1_band hl (by omega) e) (fun z5 h5 e5 => ?_) (fun x5 h5 e5 => ?_)
  · refine SxX.cond (fun k5 => ?_)
    refine SxX.catch [] ⟨0, 10, 13, 13⟩ [] ho (by rw [hM]; rfl) (fun _ h => by cases h) (by decide) (by decide) q1431 (by rw [k5]; exact q1441) ?_
    refine S_astore (L' := [some (.ref a0), some (.int a1), some (.int a2), some (.ref a3), some (.ref z5.2)]) (dc_X0_band 9 rfl) rfl ?_
    refine S_iconst_ 1 (dc_X0_band 10 rfl) rfl ?_
    exact S_iret (dc_X0_band 11 rfl) hT rfl (e_rqI hr)
  refine S_i2l (dc_X0_band 6 rfl) ?_
  refine S_last (dc_X0_band 7 rfl) (fun h9 e9 => ?_)
  refine S_goto 17 (dc_X0_band 8 rfl) rfl ?_
  refine S_iconst_ 0 (dc_X0_band 12 rfl) rfl ?_
  exact S_iret (dc_X0_band 13 rfl) hT rfl (e_rqI hr)
abbrev cX8_square : ByteArray := prog_3_method_11_code
def yX8_square : MethodName := ⟨"PegBands$Band", "square", "(I)I"⟩
def tb_X8_square : List (Nat × Instr × Nat) := [(0, .aload_n 0, 1), (1, .getfield 9, 3), (4, .aload_n 0, 1), (5, .iload_n 1, 1), (6, .invokevirtual 40, 3), (9, .iaload, 1), (10, .aload_n 0, 1), (11, .getfield 9, 3), (14, .iload_n 1, 1), (15, .iaload, 1), (16, .isub, 1), (17, .istore_n 2, 1), (18, .aload_n 0, 1), (19, .getfield 15, 3), (22, .aload_n 0, 1), (23, .iload_n 1, 1), (24, .invokevirtual 40, 3), (27, .iaload, 1), (28, .aload_n 0, 1), (29, .getfield 15, 3), (32, .iload_n 1, 1), (33, .iaload, 1), (34, .isub, 1), (35, .istore_n 3, 1), (36, .iload_n 2, 1), (37, .iload_n 2, 1), (38, .imul, 1), (39, .iload_n 3, 1), (40, .iload_n 3, 1), (41, .imul, 1), (42, .iadd, 1), (43, .ireturn, 1)]
theorem tk_X8_square : ∀ q ∈ tb_X8_square, decode cX8_square q.1 = .ok q.2 := by decide +kernel
theorem dc_X8_square (k : Nat) {pc n : Nat} {i : Instr} (h : tb_X8_square[k]? = some (pc, i, n)) : decode cX8_square pc = .ok (i, n) := tk_X8_square (pc, i, n) (List.mem_of_getElem? h)
abbrev mX8_square : e_M := (yX8_square, cX8_square, 4, some (.int), [])
theorem ok_X8_square : e_mok mX8_square 1 := ⟨q870, q117, by decide +kernel, fun sig h => by cases h; rfl⟩
def f_X8_square (h : e_H) (a0 : Nat) (a1 : Int32) : Option Int32 :=
  Option.bind (e_fA h a0 6 0) (fun x1 =>
  Option.bind (f_X8_next h a0 a1) (fun x6 =>
  Option.bind (e_aI h x1 0 x6) (fun x9 =>
  Option.bind (e_fA h a0 6 0) (fun x11 =>
  Option.bind (e_aI h x11 0 a1) (fun x15 =>
  Option.bind (some (x9 - x15)) (fun x17 =>
  Option.bind (e_fA h a0 6 1) (fun x19 =>
  Option.bind (f_X8_next h a0 a1) (fun x24 =>
  Option.bind (e_aI h x19 0 x24) (fun x27 =>
  Option.bind (e_fA h a0 6 1) (fun x29 =>
  Option.bind (e_aI h x29 0 a1) (fun x33 =>
  Option.bind (some (x27 - x33)) (fun x35 =>
  some ((x17 * x17) + (x35 * x35))))))))))))))
set_option maxHeartbeats 4000000 in
set_option maxRecDepth 100000 in
theorem ct_X8_square {l : Launch} {D : e_D} {B : Heap} {d : Nat} {h : e_H} {a0 : Nat} {a1 : Int32} {v : Int32} (hd : 2 ≤ d) (e : f_X8_square h a0 a1 = some v) : e_Run l D B d mX8_square [.ref a0, .int a1] h (.ok (some (.int v)), h) := by
  refine e_start [some (.ref a0), some (.int a1), none, none] (by decide) rfl rfl rfl (Nat.le_of_ble_eq_true rfl) (fun K hl0 hD0 hB0 hM hd0 hr => ?_)
  subst hl0 hD0 hB0 hd0
  have ho : (k_M K).1.cls = "PegBands$Band" := by rw [hM]; rfl
  have hT : (k_M K).2.2.2.1 = some (.int) := by rw [hM]
  refine (show Sx K cX8_square 0 [some (.ref a0), some (.int a1), none, none] [] h (f_X8_square h a0 a1) (fun w => w = v) from ?_) _ e rfl
  clear e
  unfold f_X8_square
  refine S_aload_n (dc_X8_square 0 rfl) rfl ?_
  refine S_getA (dc_X8_square 1 rfl) ho fl_X8_9_6_0 (fun _ _ => rfl) (fun x1 e1 => ?_)
  refine S_aload_n (dc_X8_square 2 rfl) rfl ?_
  refine S_iload_n (dc_X8_square 3 rfl) rfl ?_
  refine S_roI (d := k_d K - 1) (e_callV (b := a0) (As := [.int a1]) (rest := [.ref x1]) ok_X8_next rfl (Nat.le_of_ble_eq_true rfl) (dc_X8_square 4 rfl) ho q798 q799 (show e_cl[6]? = some (RX8, TX8, 4) from rfl) (e_sel.of q800) (e_fA_of e1).1 rfl (Nat.le_of_ble_eq_true rfl)) (by omega) (fun _ e => ct_X8_next (by omega) e) (fun x6 e6 => ?_)
  refine S_iald (dc_X8_square 5 rfl) (fun x9 e9 => ?_)
  refine S_aload_n (dc_X8_square 6 rfl) rfl ?_
  refine S_getA (dc_X8_square 7 rfl) ho fl_X8_9_6_0 (fun _ _ => rfl) (fun x11 e11 => ?_)
  refine S_iload_n (dc_X8_square 8 rfl) rfl ?_
  refine S_iald (dc_X8_square 9 rfl) (fun x15 e15 => ?_)
  refine S_isub (dc_X8_square 10 rfl) ?_
  refine Sx.nameI (fun x17 n17 => ?_)
  refine S_istore_n (L' := [some (.ref a0), some (.int a1), some (.int x17), none]) (dc_X8_square 11 rfl) rfl ?_
  refine S_aload_n (dc_X8_square 12 rfl) rfl ?_
  refine S_getA (dc_X8_square 13 rfl) ho fl_X8_15_6_1 (fun _ _ => rfl) (fun x19 e19 => ?_)
  refine S_aload_n (dc_X8_square 14 rfl) rfl ?_
  refine S_iload_n (dc_X8_square 15 rfl) rfl ?_
  refine S_roI (d := k_d K - 1) (e_callV (b := a0) (As := [.int a1]) (rest := [.ref x19]) ok_X8_next rfl (Nat.le_of_ble_eq_true rfl) (dc_X8_square 16 rfl) ho q798 q799 (show e_cl[6]? = some (RX8, TX8, 4) from rfl) (e_sel.of q800) (e_fA_of e1).1 rfl (Nat.le_of_ble_eq_true rfl)) (by omega) (fun _ e => ct_X8_next (by omega) e) (fun x24 e24 => ?_)
  refine S_iald (dc_X8_square 17 rfl) (fun x27 e27 => ?_)
  refine S_aload_n (dc_X8_square 18 rfl) rfl ?_
  refine S_getA (dc_X8_square 19 rfl) ho fl_X8_15_6_1 (fun _ _ => rfl) (fun x29 e29 => ?_)
  refine S_iload_n (dc_X8_square 20 rfl) rfl ?_
  refine S_iald (dc_X8_square 21 rfl) (fun x33 e33 => ?_)
  refine S_isub (dc_X8_square 22 rfl) ?_
  refine Sx.nameI (fun x35 n35 => ?_)
  refine S_istore_n (L' := [some (.ref a0), some (.int a1), some (.int x17), some (.int x35)]) (dc_X8_square 23 rfl) rfl ?_
  refine S_iload_n (dc_X8_square 24 rfl) rfl ?_
  refine S_iload_n (dc_X8_square 25 rfl) rfl ?_
  refine S_imul (dc_X8_square 26 rfl) ?_
  refine S_iload_n (dc_X8_square 27 rfl) rfl ?_
  refine S_iload_n (dc_X8_square 28 rfl) rfl ?_
  refine S_imul (dc_X8_square 29 rfl) ?_
  refine S_iadd (dc_X8_square 30 rfl) ?_
  exact S_iret (dc_X8_square 31 rfl) hT rfl (fun q => by cases q; exact hr)
abbrev cX8_be : ByteArray := prog_3_method_3_code
def yX8_be : MethodName := ⟨"PegBands$Band", "be", "(LPegBands$Band;)V"⟩
def tb_X8_be : List (Nat × Instr × Nat) := [(0, .aload_n 1, 1), (1, .getfield 9, 3), (4, .iconst 0, 1), (5, .aload_n 0, 1), (6, .getfield 9, 3), (9, .iconst 0, 1), (10, .bipush 8, 2), (12, .invokestatic 22, 3), (15, .aload_n 1, 1), (16, .getfield 15, 3), (19, .iconst 0, 1), (20, .aload_n 0, 1), (21, .getfield 15, 3), (24, .iconst 0, 1), (25, .bipush 8, 2), (27, .invokestatic 22, 3), (30, .aload_n 0, 1), (31, .aload_n 1, 1), (32, .getfield 28, 3), (35, .putfield 28, 3), (38, .aload_n 0, 1), (39, .aload_n 1, 1), (40, .getfield 32, 3), (43, .putfield 32, 3), (46, .return_, 1)]
theorem tk_X8_be : ∀ q ∈ tb_X8_be, decode cX8_be q.1 = .ok q.2 := by decide +kernel
theorem dc_X8_be (k : Nat) {pc n : Nat} {i : Instr} (h : tb_X8_be[k]? = some (pc, i, n)) : decode cX8_be pc = .ok (i, n) := tk_X8_be (pc, i, n) (List.mem_of_getElem? h)
abbrev mX8_be : e_M := (yX8_be, cX8_be, 2, none, [])
theorem ok_X8_be : e_mok mX8_be 1 := ⟨q965, q117, by decide +kernel, fun sig h => by cases h; rfl⟩
theorem fl_X8_32_6_3 : e_FL "PegBands$Band" 32 6 3 := ⟨_, rfl, by decide, Or.inl q404⟩
def f_X8_be (h : e_H) (a0 : Nat) (a1 : Nat) : Option e_H :=
  Option.bind (e_fA h a1 6 0) (fun x1 =>
  Option.bind (e_fA h a0 6 0) (fun x6 =>
  Option.bind (e_cpI h x1 0 x6 0 8) (fun h12 =>
  Option.bind (e_fA h12 a1 6 1) (fun x16 =>
  Option.bind (e_fA h12 a0 6 1) (fun x21 =>
  Option.bind (e_cpI h12 x16 0 x21 0 8) (fun h27 =>
  Option.bind (e_fI h27 a1 6 2) (fun x32 =>
  Option.bind (e_gI h27 a0 6 2 x32) (fun h35 =>
  Option.bind (e_fJ h35 a1 6 3) (fun x40 =>
  Option.bind (e_gJ h35 a0 6 3 x40) (fun h43 =>
  some h43))))))))))
set_option maxHeartbeats 4000000 in
set_option maxRecDepth 100000 in
theorem ct_X8_be {l : Launch} {D : e_D} {B : Heap} {d : Nat} {h : e_H} {a0 : Nat} {a1 : Nat} {h1 : e_H} (hd : 1 ≤ d) (e : f_X8_be h a0 a1 = some h1) : e_Run l D B d mX8_be [.ref a0, .ref a1] h (.ok none, h1) := by
  refine e_start [some (.ref a0), some (.ref a1)] (by decide) rfl rfl rfl (Nat.le_of_ble_eq_true rfl) (fun K hl0 hD0 hB0 hM hd0 hr => ?_)
  subst hl0 hD0 hB0 hd0
  have ho : (k_M K).1.cls = "PegBands$Band" := by rw [hM]; rfl
  have hT : (k_M K).2.2.2.1 = none := by rw [hM]
  refine (show Sx K cX8_be 0 [some (.ref a0), some (.ref a1)] [] h (f_X8_be h a0 a1) (fun w => w = h1) from ?_) _ e rfl
  clear e
  unfold f_X8_be
  refine S_aload_n (dc_X8_be 0 rfl) rfl ?_
  refine S_getA (dc_X8_be 1 rfl) ho fl_X8_9_6_0 (fun _ _ => rfl) (fun x1 e1 => ?_)
  refine S_iconst_ 0 (dc_X8_be 2 rfl) rfl ?_
  refine S_aload_n (dc_X8_be 3 rfl) rfl ?_
  refine S_getA (dc_X8_be 4 rfl) ho fl_X8_9_6_0 (fun _ _ => rfl) (fun x6 e6 => ?_)
  refine S_iconst_ 0 (dc_X8_be 5 rfl) rfl ?_
  refine S_bipush_ 8 (dc_X8_be 6 rfl) rfl ?_
  refine S_copyI (dc_X8_be 7 rfl) ho q966 (by omega) (Nat.le_of_ble_eq_true rfl) (fun h12 e12 => ?_)
  refine S_aload_n (dc_X8_be 8 rfl) rfl ?_
  refine S_getA (dc_X8_be 9 rfl) ho fl_X8_15_6_1 (fun _ _ => rfl) (fun x16 e16 => ?_)
  refine S_iconst_ 0 (dc_X8_be 10 rfl) rfl ?_
  refine S_aload_n (dc_X8_be 11 rfl) rfl ?_
  refine S_getA (dc_X8_be 12 rfl) ho fl_X8_15_6_1 (fun _ _ => rfl) (fun x21 e21 => ?_)
  refine S_iconst_ 0 (dc_X8_be 13 rfl) rfl ?_
  refine S_bipush_ 8 (dc_X8_be 14 rfl) rfl ?_
  refine S_copyI (dc_X8_be 15 rfl) ho q966 (by omega) (Nat.le_of_ble_eq_true rfl) (fun h27 e27 => ?_)
  refine S_aload_n (dc_X8_be 16 rfl) rfl ?_
  refine S_aload_n (dc_X8_be 17 rfl) rfl ?_
  refine S_getI (dc_X8_be 18 rfl) ho fl_X8_28_6_2 (fun _ _ => rfl) (fun x32 e32 => ?_)
  refine S_putI (dc_X8_be 19 rfl) ho fl_X8_28_6_2 (fun _ _ => rfl) (Or.inl rfl) rfl rfl (fun h35 e35 => ?_)
  refine S_aload_n (dc_X8_be 20 rfl) rfl ?_
  refine S_aload_n (dc_X8_be 21 rfl) rfl ?_
  refine S_getJ (dc_X8_be 22 rfl) ho fl_X8_32_6_3 (fun _ _ => rfl) (fun x40 e40 => ?_)
  refine S_putJ (dc_X8_be 23 rfl) ho fl_X8_32_6_3 (fun _ _ => rfl) (Or.inl rfl) rfl rfl (fun h43 e43 => ?_)
  exact S_vret (dc_X8_be 24 rfl) hT (fun q => by cases q; exact hr)
abbrev cX8_init_2 : ByteArray := prog_3_method_2_code
def yX8_init_2 : MethodName := ⟨"PegBands$Band", "<init>", "(LPegBands$Band;)V"⟩
def tb_X8_init_2 : List (Nat × Instr × Nat) := [(0, .aload_n 0, 1), (1, .invokespecial 3, 3), (4, .aload_n 0, 1), (5, .bipush 9, 2), (7, .newarray .int, 2), (9, .putfield 9, 3), (12, .aload_n 0, 1), (13, .bipush 9, 2), (15, .newarray .int, 2), (17, .putfield 15, 3), (20, .aload_n 0, 1), (21, .aload_n 1, 1), (22, .invokevirtual 18, 3), (25, .return_, 1)]
theorem tk_X8_init_2 : ∀ q ∈ tb_X8_init_2, decode cX8_init_2 q.1 = .ok q.2 := by decide +kernel
theorem dc_X8_init_2 (k : Nat) {pc n : Nat} {i : Instr} (h : tb_X8_init_2[k]? = some (pc, i, n)) : decode cX8_init_2 pc = .ok (i, n) := tk_X8_init_2 (pc, i, n) (List.mem_of_getElem? h)
abbrev mX8_init_2 : e_M := (yX8_init_2, cX8_init_2, 2, none, [])
theorem ok_X8_init_2 : e_mok mX8_init_2 1 := ⟨q961, q117, by decide +kernel, fun sig h => by cases h; rfl⟩
def f_X8_init_2 (h : e_H) (a0 : Nat) (a1 : Nat) : Option e_H :=
  Option.bind (e_nat 9) (fun l7 => e_mkb h (.inr (0, l7)) l7 (fun x7 h7 =>
  Option.bind (e_gR h7 a0 6 0 (some x7)) (fun h9 =>
  Option.bind (e_nat 9) (fun l15 => e_mkb h9 (.inr (0, l15)) l15 (fun x15 h15 =>
  Option.bind (e_gR h15 a0 6 1 (some x15)) (fun h17 =>
  Option.bind (e_is h17 a0 6) (fun _ =>
  Option.bind (f_X8_be h17 a0 a1) (fun h22 =>
  some h22))))))))
set_option maxHeartbeats 4000000 in
set_option maxRecDepth 100000 in
theorem ct_X8_init_2 {l : Launch} {D : e_D} {B : Heap} {d : Nat} {h : e_H} {a0 : Nat} {a1 : Nat} {h1 : e_H} (hd : 2 ≤ d) (e : f_X8_init_2 h a0 a1 = some h1) : e_Run l D B d mX8_init_2 [.ref a0, .ref a1] h (.ok none, h1) := by
  refine e_start [some (.ref a0), some (.ref a1)] (by decide) rfl rfl rfl (Nat.le_of_ble_eq_true rfl) (fun K hl0 hD0 hB0 hM hd0 hr => ?_)
  subst hl0 hD0 hB0 hd0
  have ho : (k_M K).1.cls = "PegBands$Band" := by rw [hM]; rfl
  have hT : (k_M K).2.2.2.1 = none := by rw [hM]
  refine (show Sx K cX8_init_2 0 [some (.ref a0), some (.ref a1)] [] h (f_X8_init_2 h a0 a1) (fun w => w = h1) from ?_) _ e rfl
  clear e
  unfold f_X8_init_2
  refine S_aload_n (dc_X8_init_2 0 rfl) rfl ?_
  refine S_objInit (dc_X8_init_2 1 rfl) ho q391 (by omega) (Nat.le_of_ble_eq_true rfl) ?_
  refine S_aload_n (dc_X8_init_2 2 rfl) rfl ?_
  refine S_bipush_ 9 (dc_X8_init_2 3 rfl) rfl ?_
  refine S_newaB (t := 0) (dc_X8_init_2 4 rfl) (by decide) rfl q311 (fun l7 x7 h7 v7 u7 w7 => ?_)
  refine S_putR (v := (some x7)) (dc_X8_init_2 5 rfl) ho fl_X8_9_6_0 (fun _ _ => rfl) (Or.inr ⟨rfl, by rw [hM]; rfl, rfl⟩) rfl (fun h9 e9 => ?_)
  refine S_aload_n (dc_X8_init_2 6 rfl) rfl ?_
  refine S_bipush_ 9 (dc_X8_init_2 7 rfl) rfl ?_
  refine S_newaB (t := 0) (dc_X8_init_2 8 rfl) (by decide) rfl q311 (fun l15 x15 h15 v15 u15 w15 => ?_)
  refine S_putR (v := (some x15)) (dc_X8_init_2 9 rfl) ho fl_X8_15_6_1 (fun _ _ => rfl) (Or.inr ⟨rfl, by rw [hM]; rfl, rfl⟩) rfl (fun h17 e17 => ?_)
  refine S_aload_n (dc_X8_init_2 10 rfl) rfl ?_
  refine S_aload_n (dc_X8_init_2 11 rfl) rfl ?_
  refine Sx.ask (fun _ i22 => ?_)
  refine S_rwV (d := k_d K - 1) (e_callV (b := a0) (As := [.ref a1]) (rest := []) ok_X8_be rfl (Nat.le_of_ble_eq_true rfl) (dc_X8_init_2 12 rfl) ho q962 q963 (show e_cl[6]? = some (RX8, TX8, 4) from rfl) (e_sel.of q964) (e_is_of i22) rfl (Nat.le_of_ble_eq_true rfl)) (by omega) (fun _ e => ct_X8_be (by omega) e) (fun h22 e22 => ?_)
  exact S_vret (dc_X8_init_2 13 rfl) hT (fun q => by cases q; exact hr)
abbrev cX9_init : ByteArray := prog_16_method_1_code
def yX9_init : MethodName := ⟨"PegBands$SentenceReader", "<init>", "(LPegBands;)V"⟩
def tb_X9_init : List (Nat × Instr × Nat) := [(0, .aload_n 0, 1), (1, .aload_n 1, 1), (2, .putfield 3, 3), (5, .aload_n 0, 1), (6, .aload_n 1, 1), (7, .sipush 200, 3), (10, .invokespecial 9, 3), (13, .aload_n 0, 1), (14, .iconst 5, 1), (15, .anewarray 15, 3), (18, .dup, 1), (19, .iconst 0, 1), (20, .ldc 17, 2), (22, .aastore, 1), (23, .dup, 1), (24, .iconst 1, 1), (25, .ldc 19, 2), (27, .aastore, 1), (28, .dup, 1), (29, .iconst 2, 1), (30, .ldc 21, 2), (32, .aastore, 1), (33, .dup, 1), (34, .iconst 3, 1), (35, .ldc 23, 2), (37, .aastore, 1), (38, .dup, 1), (39, .iconst 4, 1), (40, .ldc 25, 2), (42, .aastore, 1), (43, .putfield 27, 3), (46, .return_, 1)]
theorem tk_X9_init : ∀ q ∈ tb_X9_init, decode cX9_init q.1 = .ok q.2 := by decide +kernel
theorem dc_X9_init (k : Nat) {pc n : Nat} {i : Instr} (h : tb_X9_init[k]? = some (pc, i, n)) : decode cX9_init pc = .ok (i, n) := tk_X9_init (pc, i, n) (List.mem_of_getElem? h)
abbrev mX9_init : e_M := (yX9_init, cX9_init, 2, none, [])
theorem ok_X9_init : e_mok mX9_init 1 := ⟨q421, q118, by decide +kernel, fun sig h => by cases h; rfl⟩
theorem fl_X9_3_7_10 : e_FL "PegBands$SentenceReader" 3 7 10 := ⟨_, rfl, by decide, Or.inl q432⟩
theorem fl_X9_27_7_8 : e_FL "PegBands$SentenceReader" 27 7 8 := ⟨_, rfl, by decide, Or.inl q429⟩
def f_X9_init (A : Nat → Nat) (h : e_H) (a0 : Nat) (a1 : Nat) : Option e_H :=
  Option.bind (e_gR h a0 7 10 (some a1)) (fun h2 =>
  Option.bind (f_X5_init 7 h2 a0 a1 200) (fun h10 =>
  Option.bind (e_nat 5) (fun l15 => e_mkb h10 (.inr (6, l15)) l15 (fun x15 h15 =>
  Option.bind (e_wS h15 x15 0 (A 12)) (fun h22 =>
  Option.bind (e_wS h22 x15 1 (A 13)) (fun h27 =>
  Option.bind (e_wS h27 x15 2 (A 14)) (fun h32 =>
  Option.bind (e_wS h32 x15 3 (A 15)) (fun h37 =>
  Option.bind (e_wS h37 x15 4 (A 16)) (fun h42 =>
  Option.bind (e_gR h42 a0 7 8 (some x15)) (fun h43 =>
  some h43))))))))))
set_option maxHeartbeats 4000000 in
set_option maxRecDepth 100000 in
theorem ct_X9_init {l : Launch} {D : e_D} {B : Heap} {A : Nat → Nat} {d : Nat} {h : e_H} {a0 : Nat} {a1 : Nat} {h1 : e_H} (hA : D.2.2.1 = A) (hd : 2 ≤ d) (e : f_X9_init A h a0 a1 = some h1) : e_Run l D B d mX9_init [.ref a0, .ref a1] h (.ok none, h1) := by
  refine e_start [some (.ref a0), some (.ref a1)] (by decide) rfl rfl rfl (Nat.le_of_ble_eq_true rfl) (fun K hl0 hD0 hB0 hM hd0 hr => ?_)
  subst hl0 hD0 hB0 hd0
  have ho : (k_M K).1.cls = "PegBands$SentenceReader" := by rw [hM]; rfl
  have hT : (k_M K).2.2.2.1 = none := by rw [hM]
  refine (show Sx K cX9_init 0 [some (.ref a0), some (.ref a1)] [] h (f_X9_init A h a0 a1) (fun w => w = h1) from ?_) _ e rfl
  clear e
  unfold f_X9_init
  refine S_aload_n (dc_X9_init 0 rfl) rfl ?_
  refine S_aload_n (dc_X9_init 1 rfl) rfl ?_
  refine S_putR (v := (some a1)) (dc_X9_init 2 rfl) ho fl_X9_3_7_10 (fun _ _ => rfl) (Or.inr ⟨rfl, by rw [hM]; rfl, rfl⟩) rfl (fun h2 e2 => ?_)
  refine S_aload_n (dc_X9_init 3 rfl) rfl ?_
  refine S_aload_n (dc_X9_init 4 rfl) rfl ?_
  refine S_sipush_ 200 (dc_X9_init 5 rfl) rfl ?_
  refine S_rwV (d := k_d K - 1) (e_callI (b := a0) (As := [.ref a1, .int 200]) (rest := []) ok_X5_init rfl rfl rfl (Nat.le_of_ble_eq_true rfl) (dc_X9_init 6 rfl) ho q422 q318 rfl (Nat.le_of_ble_eq_true rfl)) (by omega) (fun _ e => ct_X5_init (by decide) (by omega) e) (fun h10 e10 => ?_)
  refine S_aload_n (dc_X9_init 7 rfl) rfl ?_
  refine S_iconst_ 5 (dc_X9_init 8 rfl) rfl ?_
  refine S_anewOB (t := 6) (dc_X9_init 9 rfl) ho (by decide) rfl q423 q213 (fun l15 x15 h15 v15 u15 w15 => ?_)
  refine S_dup (dc_X9_init 10 rfl) rfl ?_
  refine S_iconst_ 0 (dc_X9_init 11 rfl) rfl ?_
  refine S_ldcS (j := 12) hA (dc_X9_init 12 rfl) ho (List.mem_of_getElem? (i := 17) rfl) ?_
  refine S_aastS (x := 12) hA (by decide) (dc_X9_init 13 rfl) (fun h22 e22 => ?_)
  refine S_dup (dc_X9_init 14 rfl) rfl ?_
  refine S_iconst_ 1 (dc_X9_init 15 rfl) rfl ?_
  refine S_ldcS (j := 13) hA (dc_X9_init 16 rfl) ho (List.mem_of_getElem? (i := 18) rfl) ?_
  refine S_aastS (x := 13) hA (by decide) (dc_X9_init 17 rfl) (fun h27 e27 => ?_)
  refine S_dup (dc_X9_init 18 rfl) rfl ?_
  refine S_iconst_ 2 (dc_X9_init 19 rfl) rfl ?_
  refine S_ldcS (j := 14) hA (dc_X9_init 20 rfl) ho (List.mem_of_getElem? (i := 19) rfl) ?_
  refine S_aastS (x := 14) hA (by decide) (dc_X9_init 21 rfl) (fun h32 e32 => ?_)
  refine S_dup (dc_X9_init 22 rfl) rfl ?_
  refine S_iconst_ 3 (dc_X9_init 23 rfl) rfl ?_
  refine S_ldcS (j := 15) hA (dc_X9_init 24 rfl) ho (List.mem_of_getElem? (i := 20) rfl) ?_
  refine S_aastS (x := 15) hA (by decide) (dc_X9_init 25 rfl) (fun h37 e37 => ?_)
  refine S_dup (dc_X9_init 26 rfl) rfl ?_
  refine S_iconst_ 4 (dc_X9_init 27 rfl) rfl ?_
  refine S_ldcS (j := 16) hA (dc_X9_init 28 rfl) ho (List.mem_of_getElem? (i := 21) rfl) ?_
  refine S_aastS (x := 16) hA (by decide) (dc_X9_init 29 rfl) (fun h42 e42 => ?_)
  refine S_putR (v := (some x15)) (dc_X9_init 30 rfl) ho fl_X9_27_7_8 (fun _ _ => rfl) (Or.inr ⟨rfl, by rw [hM]; rfl, rfl⟩) rfl (fun h43 e43 => ?_)
  exact S_vret (dc_X9_init 31 rfl) hT (fun q => by cases q; exact hr)
abbrev cX1_init : ByteArray := prog_1_method_1_code
def yX1_init : MethodName := ⟨"PegBands", "<init>", "()V"⟩
def tb_X1_init : List (Nat × Instr × Nat) := [(0, .aload_n 0, 1), (1, .invokespecial 1, 3), (4, .aload_n 0, 1), (5, .sipush 640, 3), (8, .newarray .byte, 2), (10, .putfield 9, 3), (13, .aload_n 0, 1), (14, .new 13, 3), (17, .dup, 1), (18, .invokespecial 15, 3), (21, .putfield 16, 3), (24, .aload_n 0, 1), (25, .bipush 17, 2), (27, .anewarray 20, 3), (30, .dup, 1), (31, .iconst 0, 1), (32, .ldc 22, 2), (34, .aastore, 1), (35, .dup, 1), (36, .iconst 1, 1), (37, .ldc 24, 2), (39, .aastore, 1), (40, .dup, 1), (41, .iconst 2, 1), (42, .ldc 26, 2), (44, .aastore, 1), (45, .dup, 1), (46, .iconst 3, 1), (47, .ldc 28, 2), (49, .aastore, 1), (50, .dup, 1), (51, .iconst 4, 1), (52, .ldc 30, 2), (54, .aastore, 1), (55, .dup, 1), (56, .iconst 5, 1), (57, .ldc 32, 2), (59, .aastore, 1), (60, .dup, 1), (61, .bipush 6, 2), (63, .ldc 34, 2), (65, .aastore, 1), (66, .dup, 1), (67, .bipush 7, 2), (69, .ldc 36, 2), (71, .aastore, 1), (72, .dup, 1), (73, .bipush 8, 2), (75, .ldc 38, 2), (77, .aastore, 1), (78, .dup, 1), (79, .bipush 9, 2), (81, .ldc 40, 2), (83, .aastore, 1), (84, .dup, 1), (85, .bipush 10, 2), (87, .ldc 42, 2), (89, .aastore, 1), (90, .dup, 1), (91, .bipush 11, 2), (93, .ldc 44, 2), (95, .aastore, 1), (96, .dup, 1), (97, .bipush 12, 2), (99, .ldc 46, 2), (101, .aastore, 1), (102, .dup, 1), (103, .bipush 13, 2), (105, .ldc 48, 2), (107, .aastore, 1), (108, .dup, 1), (109, .bipush 14, 2), (111, .ldc 50, 2), (113, .aastore, 1), (114, .dup, 1), (115, .bipush 15, 2), (117, .ldc 52, 2), (119, .aastore, 1), (120, .dup, 1), (121, .bipush 16, 2), (123, .ldc 54, 2), (125, .aastore, 1), (126, .putfield 56, 3), (129, .aload_n 0, 1), (130, .new 60, 3), (133, .dup, 1), (134, .invokespecial 62, 3), (137, .putfield 63, 3), (140, .aload_n 0, 1), (141, .new 66, 3), (144, .dup, 1), (145, .invokespecial 68, 3), (148, .putfield 69, 3), (151, .aload_n 0, 1), (152, .new 66, 3), (155, .dup, 1), (156, .invokespecial 68, 3), (159, .putfield 73, 3), (162, .aload_n 0, 1), (163, .new 76, 3), (166, .dup, 1), (167, .aload_n 0, 1), (168, .invokespecial 78, 3), (171, .putfield 81, 3), (174, .aload_n 0, 1), (175, .new 85, 3), (178, .dup, 1), (179, .aload_n 0, 1), (180, .invokespecial 87, 3), (183, .putfield 88, 3), (186, .aload_n 0, 1), (187, .bipush 16, 2), (189, .newarray .int, 2), (191, .putfield 92, 3), (194, .aload_n 0, 1), (195, .bipush 16, 2), (197, .newarray .int, 2), (199, .putfield 96, 3), (202, .aload_n 0, 1), (203, .bipush 16, 2), (205, .newarray .int, 2), (207, .putfield 99, 3), (210, .aload_n 0, 1), (211, .bipush 16, 2), (213, .newarray .int, 2), (215, .putfield 102, 3), (218, .aload_n 0, 1), (219, .bipush 8, 2), (221, .anewarray 105, 3), (224, .putfield 107, 3), (227, .aload_n 0, 1), (228, .bipush 100, 2), (230, .newarray .byte, 2), (232, .putfield 111, 3), (235, .aload_n 0, 1), (236, .new 114, 3), (239, .dup, 1), (240, .invokespecial 116, 3), (243, .putfield 117, 3), (246, .aload_n 0, 1), (247, .bipush 100, 2), (249, .newarray .int, 2), (251, .putfield 121, 3), (254, .aload_n 0, 1), (255, .bipush 100, 2), (257, .newarray .int, 2), (259, .putfield 124, 3), (262, .aload_n 0, 1), (263, .ldc 127, 2), (265, .newarray .int, 2), (267, .putfield 128, 3), (270, .aload_n 0, 1), (271, .ldc 127, 2), (273, .newarray .int, 2), (275, .putfield 131, 3), (278, .aload_n 0, 1), (279, .bipush 9, 2), (281, .newarray .int, 2), (283, .putfield 134, 3), (286, .aload_n 0, 1), (287, .bipush 9, 2), (289, .newarray .int, 2), (291, .putfield 137, 3), (294, .aload_n 0, 1), (295, .new 140, 3), (298, .dup, 1), (299, .aload_n 0, 1), (300, .invokespecial 142, 3), (303, .putfield 143, 3), (306, .aload_n 0, 1), (307, .iconst 2, 1), (308, .anewarray 147, 3), (311, .putfield 149, 3), (314, .return_, 1)]
theorem tk_X1_init : ∀ q ∈ tb_X1_init, decode cX1_init q.1 = .ok q.2 := by decide +kernel
theorem dc_X1_init (k : Nat) {pc n : Nat} {i : Instr} (h : tb_X1_init[k]? = some (pc, i, n)) : decode cX1_init pc = .ok (i, n) := tk_X1_init (pc, i, n) (List.mem_of_getElem? h)
abbrev mX1_init : e_M := (yX1_init, cX1_init, 1, none, [])
theorem ok_X1_init : e_mok mX1_init 0 := ⟨q139, q108, by decide +kernel, fun sig h => by cases h; rfl⟩
theorem fl_X1_9_0_0 : e_FL "PegBands" 9 0 0 := ⟨_, rfl, by decide, Or.inl q450⟩
theorem fl_X1_16_0_4 : e_FL "PegBands" 16 0 4 := ⟨_, rfl, by decide, Or.inl q455⟩
theorem fl_X1_56_0_5 : e_FL "PegBands" 56 0 5 := ⟨_, rfl, by decide, Or.inl q457⟩
theorem fl_X1_69_0_7 : e_FL "PegBands" 69 0 7 := ⟨_, rfl, by decide, Or.inl q464⟩
theorem fl_X1_73_0_8 : e_FL "PegBands" 73 0 8 := ⟨_, rfl, by decide, Or.inl q465⟩
theorem fl_X1_81_0_9 : e_FL "PegBands" 81 0 9 := ⟨_, rfl, by decide, Or.inl q466⟩
theorem fl_X1_88_0_10 : e_FL "PegBands" 88 0 10 := ⟨_, rfl, by decide, Or.inl q467⟩
theorem fl_X1_102_0_16 : e_FL "PegBands" 102 0 16 := ⟨_, rfl, by decide, Or.inl q474⟩
theorem fl_X1_107_0_18 : e_FL "PegBands" 107 0 18 := ⟨_, rfl, by decide, Or.inl q476⟩
theorem fl_X1_111_0_20 : e_FL "PegBands" 111 0 20 := ⟨_, rfl, by decide, Or.inl q478⟩
theorem fl_X1_117_0_22 : e_FL "PegBands" 117 0 22 := ⟨_, rfl, by decide, Or.inl q480⟩
theorem fl_X1_121_0_25 : e_FL "PegBands" 121 0 25 := ⟨_, rfl, by decide, Or.inl q483⟩
theorem fl_X1_124_0_26 : e_FL "PegBands" 124 0 26 := ⟨_, rfl, by decide, Or.inl q484⟩
theorem fl_X1_128_0_28 : e_FL "PegBands" 128 0 28 := ⟨_, rfl, by decide, Or.inl q486⟩
theorem fl_X1_131_0_29 : e_FL "PegBands" 131 0 29 := ⟨_, rfl, by decide, Or.inl q487⟩
theorem fl_X1_134_0_31 : e_FL "PegBands" 134 0 31 := ⟨_, rfl, by decide, Or.inl q489⟩
theorem fl_X1_137_0_32 : e_FL "PegBands" 137 0 32 := ⟨_, rfl, by decide, Or.inl q490⟩
theorem fl_X1_143_0_34 : e_FL "PegBands" 143 0 34 := ⟨_, rfl, by decide, Or.inl q492⟩
theorem fl_X1_149_0_36 : e_FL "PegBands" 149 0 36 := ⟨_, rfl, by decide, Or.inl q494⟩
def f_X1_init (A : Nat → Nat) (h : e_H) (a0 : Nat) : Option e_H :=
  Option.bind (e_nat 640) (fun l8 => e_mkb h (.inr (1, l8)) l8 (fun x8 h8 =>
  Option.bind (e_gR h8 a0 0 0 (some x8)) (fun h10 =>
  e_mkb h10 (.inl 1) 8 (fun x14 h14 =>
  Option.bind (f_X2_init h14 x14) (fun h18 =>
  Option.bind (e_gR h18 a0 0 4 (some x14)) (fun h21 =>
  Option.bind (e_nat 17) (fun l27 => e_mkb h21 (.inr (6, l27)) l27 (fun x27 h27 =>
  Option.bind (e_wS h27 x27 0 (A 0)) (fun h34 =>
  Option.bind (e_wS h34 x27 1 (A 1)) (fun h39 =>
  Option.bind (e_wS h39 x27 2 (A 2)) (fun h44 =>
  Option.bind (e_wS h44 x27 3 (A 3)) (fun h49 =>
  Option.bind (e_wS h49 x27 4 (A 4)) (fun h54 =>
  Option.bind (e_wS h54 x27 5 (A 5)) (fun h59 =>
  Option.bind (e_wS h59 x27 6 (A 6)) (fun h65 =>
  Option.bind (e_wS h65 x27 7 (A 7)) (fun h71 =>
  Option.bind (e_wS h71 x27 8 (A 8)) (fun h77 =>
  Option.bind (e_wS h77 x27 9 (A 9)) (fun h83 =>
  Option.bind (e_wS h83 x27 10 (A 10)) (fun h89 =>
  Option.bind (e_wS h89 x27 11 (A 11)) (fun h95 =>
  Option.bind (e_wS h95 x27 12 (A 12)) (fun h101 =>
  Option.bind (e_wS h101 x27 13 (A 13)) (fun h107 =>
  Option.bind (e_wS h107 x27 14 (A 14)) (fun h113 =>
  Option.bind (e_wS h113 x27 15 (A 15)) (fun h119 =>
  Option.bind (e_wS h119 x27 16 (A 16)) (fun h125 =>
  Option.bind (e_gR h125 a0 0 5 (some x27)) (fun h126 =>
  e_mkb h126 (.inl 2) 7 (fun x130 h130 =>
  Option.bind (f_X3_init h130 x130) (fun h134 =>
  Option.bind (e_gR h134 a0 0 6 (some x130)) (fun h137 =>
  e_mkb h137 (.inl 3) 5 (fun x141 h141 =>
  Option.bind (f_X4_init h141 x141) (fun h145 =>
  Option.bind (e_gR h145 a0 0 7 (some x141)) (fun h148 =>
  e_mkb h148 (.inl 3) 5 (fun x152 h152 =>
  Option.bind (f_X4_init h152 x152) (fun h156 =>
  Option.bind (e_gR h156 a0 0 8 (some x152)) (fun h159 =>
  e_mkb h159 (.inl 4) 10 (fun x163 h163 =>
  Option.bind (f_X6_init h163 x163 a0) (fun h168 =>
  Option.bind (e_gR h168 a0 0 9 (some x163)) (fun h171 =>
  e_mkb h171 (.inl 5) 9 (fun x175 h175 =>
  Option.bind (f_X7_init h175 x175 a0) (fun h180 =>
  Option.bind (e_gR h180 a0 0 10 (some x175)) (fun h183 =>
  Option.bind (e_nat 16) (fun l189 => e_mkb h183 (.inr (0, l189)) l189 (fun x189 h189 =>
  Option.bind (e_gR h189 a0 0 13 (some x189)) (fun h191 =>
  Option.bind (e_nat 16) (fun l197 => e_mkb h191 (.inr (0, l197)) l197 (fun x197 h197 =>
  Option.bind (e_gR h197 a0 0 14 (some x197)) (fun h199 =>
  Option.bind (e_nat 16) (fun l205 => e_mkb h199 (.inr (0, l205)) l205 (fun x205 h205 =>
  Option.bind (e_gR h205 a0 0 15 (some x205)) (fun h207 =>
  Option.bind (e_nat 16) (fun l213 => e_mkb h207 (.inr (0, l213)) l213 (fun x213 h213 =>
  Option.bind (e_gR h213 a0 0 16 (some x213)) (fun h215 =>
  Option.bind (e_nat 8) (fun l221 => e_mkb h215 (.inr (5, l221)) l221 (fun x221 h221 =>
  Option.bind (e_gR h221 a0 0 18 (some x221)) (fun h224 =>
  Option.bind (e_nat 100) (fun l230 => e_mkb h224 (.inr (1, l230)) l230 (fun x230 h230 =>
  Option.bind (e_gR h230 a0 0 20 (some x230)) (fun h232 =>
  e_mkb h232 (.inl 6) 4 (fun x236 h236 =>
  Option.bind (f_X8_init h236 x236) (fun h240 =>
  Option.bind (e_gR h240 a0 0 22 (some x236)) (fun h243 =>
  Option.bind (e_nat 100) (fun l249 => e_mkb h243 (.inr (0, l249)) l249 (fun x249 h249 =>
  Option.bind (e_gR h249 a0 0 25 (some x249)) (fun h251 =>
  Option.bind (e_nat 100) (fun l257 => e_mkb h251 (.inr (0, l257)) l257 (fun x257 h257 =>
  Option.bind (e_gR h257 a0 0 26 (some x257)) (fun h259 =>
  Option.bind (e_nat 46656) (fun l265 => e_mkb h259 (.inr (0, l265)) l265 (fun x265 h265 =>
  Option.bind (e_gR h265 a0 0 28 (some x265)) (fun h267 =>
  Option.bind (e_nat 46656) (fun l273 => e_mkb h267 (.inr (0, l273)) l273 (fun x273 h273 =>
  Option.bind (e_gR h273 a0 0 29 (some x273)) (fun h275 =>
  Option.bind (e_nat 9) (fun l281 => e_mkb h275 (.inr (0, l281)) l281 (fun x281 h281 =>
  Option.bind (e_gR h281 a0 0 31 (some x281)) (fun h283 =>
  Option.bind (e_nat 9) (fun l289 => e_mkb h283 (.inr (0, l289)) l289 (fun x289 h289 =>
  Option.bind (e_gR h289 a0 0 32 (some x289)) (fun h291 =>
  e_mkb h291 (.inl 7) 11 (fun x295 h295 =>
  Option.bind (f_X9_init A h295 x295 a0) (fun h300 =>
  Option.bind (e_gR h300 a0 0 34 (some x295)) (fun h303 =>
  Option.bind (e_nat 2) (fun l308 => e_mkb h303 (.inr (7, l308)) l308 (fun x308 h308 =>
  Option.bind (e_gR h308 a0 0 36 (some x308)) (fun h311 =>
  some h311))))))))))))))))))))))))))))))))))))))))))))))))))))))))))))))))))))))))))))))))))))))
set_option maxHeartbeats 4000000 in
set_option maxRecDepth 100000 in
theorem ct_X1_init {l : Launch} {D : e_D} {B : Heap} {A : Nat → Nat} {d : Nat} {h : e_H} {a0 : Nat} {h1 : e_H} (hA : D.2.2.1 = A) (hd : 7 ≤ d) (e : f_X1_init A h a0 = some h1) : e_Run l D B d mX1_init [.ref a0] h (.ok none, h1) := by
  refine e_start [some (.ref a0)] (by decide) rfl rfl rfl (Nat.le_of_ble_eq_true rfl) (fun K hl0 hD0 hB0 hM hd0 hr => ?_)
  subst hl0 hD0 hB0 hd0
  have ho : (k_M K).1.cls = "PegBands" := by rw [hM]; rfl
  have hT : (k_M K).2.2.2.1 = none := by rw [hM]
  refine (show Sx K cX1_init 0 [some (.ref a0)] [] h (f_X1_init A h a0) (fun w => w = h1) from ?_) _ e rfl
  clear e
  unfold f_X1_init
  refine S_aload_n (dc_X1_init 0 rfl) rfl ?_
  refine S_objInit (dc_X1_init 1 rfl) ho q140 (by omega) (Nat.le_of_ble_eq_true rfl) ?_
  refine S_aload_n (dc_X1_init 2 rfl) rfl ?_
  refine S_sipush_ 640 (dc_X1_init 3 rfl) rfl ?_
  refine S_newaB (t := 1) (dc_X1_init 4 rfl) (by decide) rfl q211 (fun l8 x8 h8 v8 u8 w8 => ?_)
  refine S_putR (v := (some x8)) (dc_X1_init 5 rfl) ho fl_X1_9_0_0 (fun _ _ => rfl) (Or.inr ⟨rfl, by rw [hM]; rfl, rfl⟩) rfl (fun h10 e10 => ?_)
  refine S_aload_n (dc_X1_init 6 rfl) rfl ?_
  refine S_newB (dc_X1_init 7 rfl) ho (show e_cl[1]? = some (RX2, TX2, 8) from rfl) (by decide) q143 q144 q111 (fun x14 h14 u14 w14 => ?_)
  refine S_dup (dc_X1_init 8 rfl) rfl ?_
  refine S_rwV (d := k_d K - 1) (e_callI (b := x14) (As := []) (rest := [.ref x14, .ref a0]) ok_X2_init rfl rfl rfl (Nat.le_of_ble_eq_true rfl) (dc_X1_init 9 rfl) ho q181 q182 rfl (Nat.le_of_ble_eq_true rfl)) (by omega) (fun _ e => ct_X2_init (by omega) e) (fun h18 e18 => ?_)
  refine S_putR (v := (some x14)) (dc_X1_init 10 rfl) ho fl_X1_16_0_4 (fun _ _ => rfl) (Or.inr ⟨rfl, by rw [hM]; rfl, rfl⟩) rfl (fun h21 e21 => ?_)
  refine S_aload_n (dc_X1_init 11 rfl) rfl ?_
  refine S_bipush_ 17 (dc_X1_init 12 rfl) rfl ?_
  refine S_anewOB (t := 6) (dc_X1_init 13 rfl) ho (by decide) rfl q212 q213 (fun l27 x27 h27 v27 u27 w27 => ?_)
  refine S_dup (dc_X1_init 14 rfl) rfl ?_
  refine S_iconst_ 0 (dc_X1_init 15 rfl) rfl ?_
  refine S_ldcS (j := 0) hA (dc_X1_init 16 rfl) ho (List.mem_of_getElem? (i := 0) rfl) ?_
  refine S_aastS (x := 0) hA (by decide) (dc_X1_init 17 rfl) (fun h34 e34 => ?_)
  refine S_dup (dc_X1_init 18 rfl) rfl ?_
  refine S_iconst_ 1 (dc_X1_init 19 rfl) rfl ?_
  refine S_ldcS (j := 1) hA (dc_X1_init 20 rfl) ho (List.mem_of_getElem? (i := 1) rfl) ?_
  refine S_aastS (x := 1) hA (by decide) (dc_X1_init 21 rfl) (fun h39 e39 => ?_)
  refine S_dup (dc_X1_init 22 rfl) rfl ?_
  refine S_iconst_ 2 (dc_X1_init 23 rfl) rfl ?_
  refine S_ldcS (j := 2) hA (dc_X1_init 24 rfl) ho (List.mem_of_getElem? (i := 2) rfl) ?_
  refine S_aastS (x := 2) hA (by decide) (dc_X1_init 25 rfl) (fun h44 e44 => ?_)
  refine S_dup (dc_X1_init 26 rfl) rfl ?_
  refine S_iconst_ 3 (dc_X1_init 27 rfl) rfl ?_
  refine S_ldcS (j := 3) hA (dc_X1_init 28 rfl) ho (List.mem_of_getElem? (i := 3) rfl) ?_
  refine S_aastS (x := 3) hA (by decide) (dc_X1_init 29 rfl) (fun h49 e49 => ?_)
  refine S_dup (dc_X1_init 30 rfl) rfl ?_
  refine S_iconst_ 4 (dc_X1_init 31 rfl) rfl ?_
  refine S_ldcS (j := 4) hA (dc_X1_init 32 rfl) ho (List.mem_of_getElem? (i := 4) rfl) ?_
  refine S_aastS (x := 4) hA (by decide) (dc_X1_init 33 rfl) (fun h54 e54 => ?_)
  refine S_dup (dc_X1_init 34 rfl) rfl ?_
  refine S_iconst_ 5 (dc_X1_init 35 rfl) rfl ?_
  refine S_ldcS (j := 5) hA (dc_X1_init 36 rfl) ho (List.mem_of_getElem? (i := 5) rfl) ?_
  refine S_aastS (x := 5) hA (by decide) (dc_X1_init 37 rfl) (fun h59 e59 => ?_)
  refine S_dup (dc_X1_init 38 rfl) rfl ?_
  refine S_bipush_ 6 (dc_X1_init 39 rfl) rfl ?_
  refine S_ldcS (j := 6) hA (dc_X1_init 40 rfl) ho (List.mem_of_getElem? (i := 6) rfl) ?_
  refine S_aastS (x := 6) hA (by decide) (dc_X1_init 41 rfl) (fun h65 e65 => ?_)
  refine S_dup (dc_X1_init 42 rfl) rfl ?_
  refine S_bipush_ 7 (dc_X1_init 43 rfl) rfl ?_
  refine S_ldcS (j := 7) hA (dc_X1_init 44 rfl) ho (List.mem_of_getElem? (i := 7) rfl) ?_
  refine S_aastS (x := 7) hA (by decide) (dc_X1_init 45 rfl) (fun h71 e71 => ?_)
  refine S_dup (dc_X1_init 46 rfl) rfl ?_
  refine S_bipush_ 8 (dc_X1_init 47 rfl) rfl ?_
  refine S_ldcS (j := 8) hA (dc_X1_init 48 rfl) ho (List.mem_of_getElem? (i := 8) rfl) ?_
  refine S_aastS (x := 8) hA (by decide) (dc_X1_init 49 rfl) (fun h77 e77 => ?_)
  refine S_dup (dc_X1_init 50 rfl) rfl ?_
  refine S_bipush_ 9 (dc_X1_init 51 rfl) rfl ?_
  refine S_ldcS (j := 9) hA (dc_X1_init 52 rfl) ho (List.mem_of_getElem? (i := 9) rfl) ?_
  refine S_aastS (x := 9) hA (by decide) (dc_X1_init 53 rfl) (fun h83 e83 => ?_)
  refine S_dup (dc_X1_init 54 rfl) rfl ?_
  refine S_bipush_ 10 (dc_X1_init 55 rfl) rfl ?_
  refine S_ldcS (j := 10) hA (dc_X1_init 56 rfl) ho (List.mem_of_getElem? (i := 10) rfl) ?_
  refine S_aastS (x := 10) hA (by decide) (dc_X1_init 57 rfl) (fun h89 e89 => ?_)
  refine S_dup (dc_X1_init 58 rfl) rfl ?_
  refine S_bipush_ 11 (dc_X1_init 59 rfl) rfl ?_
  refine S_ldcS (j := 11) hA (dc_X1_init 60 rfl) ho (List.mem_of_getElem? (i := 11) rfl) ?_
  refine S_aastS (x := 11) hA (by decide) (dc_X1_init 61 rfl) (fun h95 e95 => ?_)
  refine S_dup (dc_X1_init 62 rfl) rfl ?_
  refine S_bipush_ 12 (dc_X1_init 63 rfl) rfl ?_
  refine S_ldcS (j := 12) hA (dc_X1_init 64 rfl) ho (List.mem_of_getElem? (i := 12) rfl) ?_
  refine S_aastS (x := 12) hA (by decide) (dc_X1_init 65 rfl) (fun h101 e101 => ?_)
  refine S_dup (dc_X1_init 66 rfl) rfl ?_
  refine S_bipush_ 13 (dc_X1_init 67 rfl) rfl ?_
  refine S_ldcS (j := 13) hA (dc_X1_init 68 rfl) ho (List.mem_of_getElem? (i := 13) rfl) ?_
  refine S_aastS (x := 13) hA (by decide) (dc_X1_init 69 rfl) (fun h107 e107 => ?_)
  refine S_dup (dc_X1_init 70 rfl) rfl ?_
  refine S_bipush_ 14 (dc_X1_init 71 rfl) rfl ?_
  refine S_ldcS (j := 14) hA (dc_X1_init 72 rfl) ho (List.mem_of_getElem? (i := 14) rfl) ?_
  refine S_aastS (x := 14) hA (by decide) (dc_X1_init 73 rfl) (fun h113 e113 => ?_)
  refine S_dup (dc_X1_init 74 rfl) rfl ?_
  refine S_bipush_ 15 (dc_X1_init 75 rfl) rfl ?_
  refine S_ldcS (j := 15) hA (dc_X1_init 76 rfl) ho (List.mem_of_getElem? (i := 15) rfl) ?_
  refine S_aastS (x := 15) hA (by decide) (dc_X1_init 77 rfl) (fun h119 e119 => ?_)
  refine S_dup (dc_X1_init 78 rfl) rfl ?_
  refine S_bipush_ 16 (dc_X1_init 79 rfl) rfl ?_
  refine S_ldcS (j := 16) hA (dc_X1_init 80 rfl) ho (List.mem_of_getElem? (i := 16) rfl) ?_
  refine S_aastS (x := 16) hA (by decide) (dc_X1_init 81 rfl) (fun h125 e125 => ?_)
  refine S_putR (v := (some x27)) (dc_X1_init 82 rfl) ho fl_X1_56_0_5 (fun _ _ => rfl) (Or.inr ⟨rfl, by rw [hM]; rfl, rfl⟩) rfl (fun h126 e126 => ?_)
  refine S_aload_n (dc_X1_init 83 rfl) rfl ?_
  refine S_newB (dc_X1_init 84 rfl) ho (show e_cl[2]? = some (RX3, TX3, 7) from rfl) (by decide) q231 q232 q112 (fun x130 h130 u130 w130 => ?_)
  refine S_dup (dc_X1_init 85 rfl) rfl ?_
  refine S_rwV (d := k_d K - 1) (e_callIN (b := x130) (As := []) (rest := [.ref x130, .ref a0]) ok_X3_init rfl rfl rfl (Nat.le_of_ble_eq_true rfl) (dc_X1_init 86 rfl) ho q233 q234 rfl (Nat.le_of_ble_eq_true rfl)) (by omega) (fun _ e => ct_X3_init (by omega) e) (fun h134 e134 => ?_)
  refine S_putR (v := (some x130)) (dc_X1_init 87 rfl) ho fl_X1_63_0_6 (fun _ _ => rfl) (Or.inl rfl) rfl (fun h137 e137 => ?_)
  refine S_aload_n (dc_X1_init 88 rfl) rfl ?_
  refine S_newB (dc_X1_init 89 rfl) ho (show e_cl[3]? = some (RX4, TX4, 5) from rfl) (by decide) q283 q284 q113 (fun x141 h141 u141 w141 => ?_)
  refine S_dup (dc_X1_init 90 rfl) rfl ?_
  refine S_rwV (d := k_d K - 1) (e_callIN (b := x141) (As := []) (rest := [.ref x141, .ref a0]) ok_X4_init rfl rfl rfl (Nat.le_of_ble_eq_true rfl) (dc_X1_init 91 rfl) ho q285 q286 rfl (Nat.le_of_ble_eq_true rfl)) (by omega) (fun _ e => ct_X4_init (by omega) e) (fun h145 e145 => ?_)
  refine S_putR (v := (some x141)) (dc_X1_init 92 rfl) ho fl_X1_69_0_7 (fun _ _ => rfl) (Or.inr ⟨rfl, by rw [hM]; rfl, rfl⟩) rfl (fun h148 e148 => ?_)
  refine S_aload_n (dc_X1_init 93 rfl) rfl ?_
  refine S_newB (dc_X1_init 94 rfl) ho (show e_cl[3]? = some (RX4, TX4, 5) from rfl) (by decide) q283 q284 q113 (fun x152 h152 u152 w152 => ?_)
  refine S_dup (dc_X1_init 95 rfl) rfl ?_
  refine S_rwV (d := k_d K - 1) (e_callIN (b := x152) (As := []) (rest := [.ref x152, .ref a0]) ok_X4_init rfl rfl rfl (Nat.le_of_ble_eq_true rfl) (dc_X1_init 96 rfl) ho q285 q286 rfl (Nat.le_of_ble_eq_true rfl)) (by omega) (fun _ e => ct_X4_init (by omega) e) (fun h156 e156 => ?_)
  refine S_putR (v := (some x152)) (dc_X1_init 97 rfl) ho fl_X1_73_0_8 (fun _ _ => rfl) (Or.inr ⟨rfl, by rw [hM]; rfl, rfl⟩) rfl (fun h159 e159 => ?_)
  refine S_aload_n (dc_X1_init 98 rfl) rfl ?_
  refine S_newB (dc_X1_init 99 rfl) ho (show e_cl[4]? = some (RX6, TX6, 10) from rfl) (by decide) q312 q313 q115 (fun x163 h163 u163 w163 => ?_)
  refine S_dup (dc_X1_init 100 rfl) rfl ?_
  refine S_aload_n (dc_X1_init 101 rfl) rfl ?_
  refine S_rwV (d := k_d K - 1) (e_callI (b := x163) (As := [.ref a0]) (rest := [.ref x163, .ref a0]) ok_X6_init rfl rfl rfl (Nat.le_of_ble_eq_true rfl) (dc_X1_init 102 rfl) ho q314 q315 rfl (Nat.le_of_ble_eq_true rfl)) (by omega) (fun _ e => ct_X6_init (by omega) e) (fun h168 e168 => ?_)
  refine S_putR (v := (some x163)) (dc_X1_init 103 rfl) ho fl_X1_81_0_9 (fun _ _ => rfl) (Or.inr ⟨rfl, by rw [hM]; rfl, rfl⟩) rfl (fun h171 e171 => ?_)
  refine S_aload_n (dc_X1_init 104 rfl) rfl ?_
  refine S_newB (dc_X1_init 105 rfl) ho (show e_cl[5]? = some (RX7, TX7, 9) from rfl) (by decide) q366 q367 q116 (fun x175 h175 u175 w175 => ?_)
  refine S_dup (dc_X1_init 106 rfl) rfl ?_
  refine S_aload_n (dc_X1_init 107 rfl) rfl ?_
  refine S_rwV (d := k_d K - 1) (e_callI (b := x175) (As := [.ref a0]) (rest := [.ref x175, .ref a0]) ok_X7_init rfl rfl rfl (Nat.le_of_ble_eq_true rfl) (dc_X1_init 108 rfl) ho q368 q369 rfl (Nat.le_of_ble_eq_true rfl)) (by omega) (fun _ e => ct_X7_init (by omega) e) (fun h180 e180 => ?_)
  refine S_putR (v := (some x175)) (dc_X1_init 109 rfl) ho fl_X1_88_0_10 (fun _ _ => rfl) (Or.inr ⟨rfl, by rw [hM]; rfl, rfl⟩) rfl (fun h183 e183 => ?_)
  refine S_aload_n (dc_X1_init 110 rfl) rfl ?_
  refine S_bipush_ 16 (dc_X1_init 111 rfl) rfl ?_
  refine S_newaB (t := 0) (dc_X1_init 112 rfl) (by decide) rfl q311 (fun l189 x189 h189 v189 u189 w189 => ?_)
  refine S_putR (v := (some x189)) (dc_X1_init 113 rfl) ho fl_X1_92_0_13 (fun _ _ => rfl) (Or.inr ⟨rfl, by rw [hM]; rfl, rfl⟩) rfl (fun h191 e191 => ?_)
  refine S_aload_n (dc_X1_init 114 rfl) rfl ?_
  refine S_bipush_ 16 (dc_X1_init 115 rfl) rfl ?_
  refine S_newaB (t := 0) (dc_X1_init 116 rfl) (by decide) rfl q311 (fun l197 x197 h197 v197 u197 w197 => ?_)
  refine S_putR (v := (some x197)) (dc_X1_init 117 rfl) ho fl_X1_96_0_14 (fun _ _ => rfl) (Or.inr ⟨rfl, by rw [hM]; rfl, rfl⟩) rfl (fun h199 e199 => ?_)
  refine S_aload_n (dc_X1_init 118 rfl) rfl ?_
  refine S_bipush_ 16 (dc_X1_init 119 rfl) rfl ?_
  refine S_newaB (t := 0) (dc_X1_init 120 rfl) (by decide) rfl q311 (fun l205 x205 h205 v205 u205 w205 => ?_)
  refine S_putR (v := (some x205)) (dc_X1_init 121 rfl) ho fl_X1_99_0_15 (fun _ _ => rfl) (Or.inr ⟨rfl, by rw [hM]; rfl, rfl⟩) rfl (fun h207 e207 => ?_)
  refine S_aload_n (dc_X1_init 122 rfl) rfl ?_
  refine S_bipush_ 16 (dc_X1_init 123 rfl) rfl ?_
  refine S_newaB (t := 0) (dc_X1_init 124 rfl) (by decide) rfl q311 (fun l213 x213 h213 v213 u213 w213 => ?_)
  refine S_putR (v := (some x213)) (dc_X1_init 125 rfl) ho fl_X1_102_0_16 (fun _ _ => rfl) (Or.inr ⟨rfl, by rw [hM]; rfl, rfl⟩) rfl (fun h215 e215 => ?_)
  refine S_aload_n (dc_X1_init 126 rfl) rfl ?_
  refine S_bipush_ 8 (dc_X1_init 127 rfl) rfl ?_
  refine S_anewAB (t := 5) (dc_X1_init 128 rfl) ho (by decide) rfl q384 q385 (fun l221 x221 h221 v221 u221 w221 => ?_)
  refine S_putR (v := (some x221)) (dc_X1_init 129 rfl) ho fl_X1_107_0_18 (fun _ _ => rfl) (Or.inr ⟨rfl, by rw [hM]; rfl, rfl⟩) rfl (fun h224 e224 => ?_)
  refine S_aload_n (dc_X1_init 130 rfl) rfl ?_
  refine S_bipush_ 100 (dc_X1_init 131 rfl) rfl ?_
  refine S_newaB (t := 1) (dc_X1_init 132 rfl) (by decide) rfl q211 (fun l230 x230 h230 v230 u230 w230 => ?_)
  refine S_putR (v := (some x230)) (dc_X1_init 133 rfl) ho fl_X1_111_0_20 (fun _ _ => rfl) (Or.inr ⟨rfl, by rw [hM]; rfl, rfl⟩) rfl (fun h232 e232 => ?_)
  refine S_aload_n (dc_X1_init 134 rfl) rfl ?_
  refine S_newB (dc_X1_init 135 rfl) ho (show e_cl[6]? = some (RX8, TX8, 4) from rfl) (by decide) q386 q387 q117 (fun x236 h236 u236 w236 => ?_)
  refine S_dup (dc_X1_init 136 rfl) rfl ?_
  refine S_rwV (d := k_d K - 1) (e_callI (b := x236) (As := []) (rest := [.ref x236, .ref a0]) ok_X8_init rfl rfl rfl (Nat.le_of_ble_eq_true rfl) (dc_X1_init 137 rfl) ho q388 q389 rfl (Nat.le_of_ble_eq_true rfl)) (by omega) (fun _ e => ct_X8_init (by omega) e) (fun h240 e240 => ?_)
  refine S_putR (v := (some x236)) (dc_X1_init 138 rfl) ho fl_X1_117_0_22 (fun _ _ => rfl) (Or.inr ⟨rfl, by rw [hM]; rfl, rfl⟩) rfl (fun h243 e243 => ?_)
  refine S_aload_n (dc_X1_init 139 rfl) rfl ?_
  refine S_bipush_ 100 (dc_X1_init 140 rfl) rfl ?_
  refine S_newaB (t := 0) (dc_X1_init 141 rfl) (by decide) rfl q311 (fun l249 x249 h249 v249 u249 w249 => ?_)
  refine S_putR (v := (some x249)) (dc_X1_init 142 rfl) ho fl_X1_121_0_25 (fun _ _ => rfl) (Or.inr ⟨rfl, by rw [hM]; rfl, rfl⟩) rfl (fun h251 e251 => ?_)
  refine S_aload_n (dc_X1_init 143 rfl) rfl ?_
  refine S_bipush_ 100 (dc_X1_init 144 rfl) rfl ?_
  refine S_newaB (t := 0) (dc_X1_init 145 rfl) (by decide) rfl q311 (fun l257 x257 h257 v257 u257 w257 => ?_)
  refine S_putR (v := (some x257)) (dc_X1_init 146 rfl) ho fl_X1_124_0_26 (fun _ _ => rfl) (Or.inr ⟨rfl, by rw [hM]; rfl, rfl⟩) rfl (fun h259 e259 => ?_)
  refine S_aload_n (dc_X1_init 147 rfl) rfl ?_
  refine S_ldc 46656 (dc_X1_init 148 rfl) ho q416 ?_
  refine S_newaB (t := 0) (dc_X1_init 149 rfl) (by decide) rfl q311 (fun l265 x265 h265 v265 u265 w265 => ?_)
  refine S_putR (v := (some x265)) (dc_X1_init 150 rfl) ho fl_X1_128_0_28 (fun _ _ => rfl) (Or.inr ⟨rfl, by rw [hM]; rfl, rfl⟩) rfl (fun h267 e267 => ?_)
  refine S_aload_n (dc_X1_init 151 rfl) rfl ?_
  refine S_ldc 46656 (dc_X1_init 152 rfl) ho q416 ?_
  refine S_newaB (t := 0) (dc_X1_init 153 rfl) (by decide) rfl q311 (fun l273 x273 h273 v273 u273 w273 => ?_)
  refine S_putR (v := (some x273)) (dc_X1_init 154 rfl) ho fl_X1_131_0_29 (fun _ _ => rfl) (Or.inr ⟨rfl, by rw [hM]; rfl, rfl⟩) rfl (fun h275 e275 => ?_)
  refine S_aload_n (dc_X1_init 155 rfl) rfl ?_
  refine S_bipush_ 9 (dc_X1_init 156 rfl) rfl ?_
  refine S_newaB (t := 0) (dc_X1_init 157 rfl) (by decide) rfl q311 (fun l281 x281 h281 v281 u281 w281 => ?_)
  refine S_putR (v := (some x281)) (dc_X1_init 158 rfl) ho fl_X1_134_0_31 (fun _ _ => rfl) (Or.inr ⟨rfl, by rw [hM]; rfl, rfl⟩) rfl (fun h283 e283 => ?_)
  refine S_aload_n (dc_X1_init 159 rfl) rfl ?_
  refine S_bipush_ 9 (dc_X1_init 160 rfl) rfl ?_
  refine S_newaB (t := 0) (dc_X1_init 161 rfl) (by decide) rfl q311 (fun l289 x289 h289 v289 u289 w289 => ?_)
  refine S_putR (v := (some x289)) (dc_X1_init 162 rfl) ho fl_X1_137_0_32 (fun _ _ => rfl) (Or.inr ⟨rfl, by rw [hM]; rfl, rfl⟩) rfl (fun h291 e291 => ?_)
  refine S_aload_n (dc_X1_init 163 rfl) rfl ?_
  refine S_newB (dc_X1_init 164 rfl) ho (show e_cl[7]? = some (RX9, TX9, 11) from rfl) (by decide) q417 q418 q118 (fun x295 h295 u295 w295 => ?_)
  refine S_dup (dc_X1_init 165 rfl) rfl ?_
  refine S_aload_n (dc_X1_init 166 rfl) rfl ?_
  refine S_rwV (d := k_d K - 1) (e_callI (b := x295) (As := [.ref a0]) (rest := [.ref x295, .ref a0]) ok_X9_init rfl rfl rfl (Nat.le_of_ble_eq_true rfl) (dc_X1_init 167 rfl) ho q419 q420 rfl (Nat.le_of_ble_eq_true rfl)) (by omega) (fun _ e => ct_X9_init hA (by omega) e) (fun h300 e300 => ?_)
  refine S_putR (v := (some x295)) (dc_X1_init 168 rfl) ho fl_X1_143_0_34 (fun _ _ => rfl) (Or.inr ⟨rfl, by rw [hM]; rfl, rfl⟩) rfl (fun h303 e303 => ?_)
  refine S_aload_n (dc_X1_init 169 rfl) rfl ?_
  refine S_iconst_ 2 (dc_X1_init 170 rfl) rfl ?_
  refine S_anewOB (t := 7) (dc_X1_init 171 rfl) ho (by decide) rfl q448 q449 (fun l308 x308 h308 v308 u308 w308 => ?_)
  refine S_putR (v := (some x308)) (dc_X1_init 172 rfl) ho fl_X1_149_0_36 (fun _ _ => rfl) (Or.inr ⟨rfl, by rw [hM]; rfl, rfl⟩) rfl (fun h311 e311 => ?_)
  exact S_vret (dc_X1_init 173 rfl) hT (fun q => by cases q; exact hr)
abbrev cX1_four : ByteArray := prog_1_method_3_code
def yX1_four : MethodName := ⟨"PegBands", "four", "(I)V"⟩
def tb_X1_four : List (Nat × Instr × Nat) := [(0, .bipush 24, 2), (2, .istore_n 2, 1), (3, .iload_n 2, 1), (4, .ifCond .lt 32, 3), (7, .aload_n 0, 1), (8, .getfield 9, 3), (11, .aload_n 0, 1), (12, .getfield 153, 3), (15, .iload_n 1, 1), (16, .iload_n 2, 1), (17, .ishr, 1), (18, .i2b, 1), (19, .bastore, 1), (20, .aload_n 0, 1), (21, .dup, 1), (22, .getfield 153, 3), (25, .iconst 1, 1), (26, .iadd, 1), (27, .putfield 153, 3), (30, .iinc 2 (-8), 3), (33, .goto (-30), 3), (36, .return_, 1)]
theorem tk_X1_four : ∀ q ∈ tb_X1_four, decode cX1_four q.1 = .ok q.2 := by decide +kernel
theorem dc_X1_four (k : Nat) {pc n : Nat} {i : Instr} (h : tb_X1_four[k]? = some (pc, i, n)) : decode cX1_four pc = .ok (i, n) := tk_X1_four (pc, i, n) (List.mem_of_getElem? h)
abbrev mX1_four : e_M := (yX1_four, cX1_four, 3, none, [])
theorem ok_X1_four : e_mok mX1_four 1 := ⟨q577, q108, by decide +kernel, fun sig h => by cases h; rfl⟩
theorem fl_X1_153_0_1 : e_FL "PegBands" 153 0 1 := ⟨_, rfl, by decide, Or.inl q452⟩
def lp_X1_four_3 (F : Nat) (a0 : Nat) (a1 : Int32) : Nat → Int32 → e_H → Option (e_H)
  | 0, _, _ => none
  | n + 1, x2_3, h_3 =>
    if x2_3 < 0 then
      some h_3
    else
      Option.bind (e_fA h_3 a0 0 0) (fun x8 =>
      Option.bind (e_fI h_3 a0 0 1) (fun x12 =>
      Option.bind (e_wI h_3 x8 1 x12 ((a1 >>> (x2_3 &&& 31)).toInt8.toInt32).toInt8.toInt32) (fun h19 =>
      Option.bind (e_fI h19 a0 0 1) (fun x22 =>
      Option.bind (e_gI h19 a0 0 1 (x22 + 1)) (fun h27 =>
      Option.bind (some (x2_3 + (-8))) (fun x30 =>
      lp_X1_four_3 F a0 a1 n x30 h27))))))
def f_X1_four (F : Nat) (h : e_H) (a0 : Nat) (a1 : Int32) : Option e_H :=
  Option.bind (
      lp_X1_four_3 F a0 a1 F 24 h
    : Option (e_H)) (fun h36_1 =>
  some h36_1)
set_option maxHeartbeats 4000000 in
set_option maxRecDepth 100000 in
theorem ct_X1_four {l : Launch} {D : e_D} {B : Heap} {F : Nat} {d : Nat} {h : e_H} {a0 : Nat} {a1 : Int32} {h1 : e_H} (hd : 1 ≤ d) (e : f_X1_four F h a0 a1 = some h1) : e_Run l D B d mX1_four [.ref a0, .int a1] h (.ok none, h1) := by
  refine e_start [some (.ref a0), some (.int a1), none] (by decide) rfl rfl rfl (Nat.le_of_ble_eq_true rfl) (fun K hl0 hD0 hB0 hM hd0 hr => ?_)
  subst hl0 hD0 hB0 hd0
  have ho : (k_M K).1.cls = "PegBands" := by rw [hM]; rfl
  have hT : (k_M K).2.2.2.1 = none := by rw [hM]
  refine (show Sx K cX1_four 0 [some (.ref a0), some (.int a1), none] [] h (f_X1_four F h a0 a1) (fun w => w = h1) from ?_) _ e rfl
  clear e
  unfold f_X1_four
  refine S_bipush_ 24 (dc_X1_four 0 rfl) rfl ?_
  refine S_istore_n (L' := [some (.ref a0), some (.int a1), some (.int 24)]) (dc_X1_four 1 rfl) rfl ?_
  refine Sx.regK1 (pc2 := 36) (L2 := fun (h36_1 : e_H) => [none, none, none]) (st2 := fun (h36_1 : e_H) => []) (h2 := fun (h36_1 : e_H) => h36_1) ?_ (fun Q1 hK1 => ?_)
  · intro h36_1
    show Sx K cX1_four 36 [none, none, none] [] h36_1 _ _
    exact S_vret (dc_X1_four 21 rfl) hT (fun q => by cases q; exact hr)
  · have hK1 : ∀ (h36_1 : e_H), Sx K cX1_four 36 [none, none, none] [] h36_1 (some h36_1) Q1 := hK1
    have ih1 : ∀ (n : Nat) (x2_3 : Int32) (h_3 : e_H), Sx K cX1_four 3 [some (.ref a0), some (.int a1), some (.int x2_3)] [] h_3 (lp_X1_four_3 F a0 a1 n x2_3 h_3) Q1 := by
      intro n
      induction n with
      | zero => intro x2_3 h_3; exact Sx.none
      | succ n ih1 =>
        intro x2_3 h_3
        rw [lp_X1_four_3.eq_2]
        refine S_iload_n (dc_X1_four 2 rfl) rfl ?_
        refine S_if_lt 36 (dc_X1_four 3 rfl) rfl (fun c4 => ?_) (fun c4 => ?_)
        · refine Sx.cut [false, false, false] ?_
          exact hK1 h_3
        · refine S_aload_n (dc_X1_four 4 rfl) rfl ?_
          refine S_getA (dc_X1_four 5 rfl) ho fl_X1_9_0_0 (fun _ _ => rfl) (fun x8 e8 => ?_)
          refine S_aload_n (dc_X1_four 6 rfl) rfl ?_
          refine S_getI (dc_X1_four 7 rfl) ho fl_X1_153_0_1 (fun _ _ => rfl) (fun x12 e12 => ?_)
          refine S_iload_n (dc_X1_four 8 rfl) rfl ?_
          refine S_iload_n (dc_X1_four 9 rfl) rfl ?_
          refine S_ishr (dc_X1_four 10 rfl) ?_
          refine S_i2b (dc_X1_four 11 rfl) ?_
          refine S_bast (dc_X1_four 12 rfl) (fun h19 e19 => ?_)
          refine S_aload_n (dc_X1_four 13 rfl) rfl ?_
          refine S_dup (dc_X1_four 14 rfl) rfl ?_
          refine S_getI (dc_X1_four 15 rfl) ho fl_X1_153_0_1 (fun _ _ => rfl) (fun x22 e22 => ?_)
          refine S_iconst_ 1 (dc_X1_four 16 rfl) rfl ?_
          refine S_iadd (dc_X1_four 17 rfl) ?_
          refine S_putI (dc_X1_four 18 rfl) ho fl_X1_153_0_1 (fun _ _ => rfl) (Or.inl rfl) rfl rfl (fun h27 e27 => ?_)
          refine S_iincN (-8) (L' := fun x30 => [some (.ref a0), some (.int a1), some (.int x30)]) (dc_X1_four 19 rfl) rfl rfl (fun _ => rfl) (fun x30 n30 => ?_)
          refine S_goto 3 (dc_X1_four 20 rfl) rfl ?_
          exact ih1 x30 h27
    exact ih1 F 24 h
abbrev cX1_feed : ByteArray := prog_1_method_2_code
def yX1_feed : MethodName := ⟨"PegBands", "feed", "(IIIII)I"⟩
def tb_X1_feed : List (Nat × Instr × Nat) := [(0, .aload_n 0, 1), (1, .getfield 153, 3), (4, .bipush 20, 2), (6, .iadd, 1), (7, .sipush 640, 3), (10, .if_icmp .le 5, 3), (13, .iconst (-1), 1), (14, .ireturn, 1), (15, .aload_n 0, 1), (16, .iload_n 1, 1), (17, .invokevirtual 157, 3), (20, .aload_n 0, 1), (21, .iload_n 2, 1), (22, .invokevirtual 157, 3), (25, .aload_n 0, 1), (26, .iload_n 3, 1), (27, .invokevirtual 157, 3), (30, .aload_n 0, 1), (31, .iload 4, 2), (33, .invokevirtual 157, 3), (36, .aload_n 0, 1), (37, .iload 5, 2), (39, .invokevirtual 157, 3), (42, .aload_n 0, 1), (43, .getfield 153, 3), (46, .ireturn, 1)]
theorem tk_X1_feed : ∀ q ∈ tb_X1_feed, decode cX1_feed q.1 = .ok q.2 := by decide +kernel
theorem dc_X1_feed (k : Nat) {pc n : Nat} {i : Instr} (h : tb_X1_feed[k]? = some (pc, i, n)) : decode cX1_feed pc = .ok (i, n) := tk_X1_feed (pc, i, n) (List.mem_of_getElem? h)
abbrev mX1_feed : e_M := (yX1_feed, cX1_feed, 6, some (.int), [])
theorem ok_X1_feed : e_mok mX1_feed 5 := ⟨q573, q108, by decide +kernel, fun sig h => by cases h; rfl⟩
def f_X1_feed (F : Nat) (h : e_H) (a0 : Nat) (a1 : Int32) (a2 : Int32) (a3 : Int32) (a4 : Int32) (a5 : Int32) : Option (Int32 × e_H) :=
  Option.bind (e_fI h a0 0 1) (fun x1 =>
  if (x1 + 20) ≤ 640 then
    Option.bind (f_X1_four F h a0 a1) (fun h17 =>
    Option.bind (e_is h17 a0 0) (fun _ =>
    Option.bind (f_X1_four F h17 a0 a2) (fun h22 =>
    Option.bind (e_is h22 a0 0) (fun _ =>
    Option.bind (f_X1_four F h22 a0 a3) (fun h27 =>
    Option.bind (e_is h27 a0 0) (fun _ =>
    Option.bind (f_X1_four F h27 a0 a4) (fun h33 =>
    Option.bind (e_is h33 a0 0) (fun _ =>
    Option.bind (f_X1_four F h33 a0 a5) (fun h39 =>
    Option.bind (e_fI h39 a0 0 1) (fun x43 =>
    some (x43, h39)))))))))))
  else
    some ((-1), h))
set_option maxHeartbeats 4000000 in
set_option maxRecDepth 100000 in
theorem ct_X1_feed {l : Launch} {D : e_D} {B : Heap} {F : Nat} {d : Nat} {h : e_H} {a0 : Nat} {a1 : Int32} {a2 : Int32} {a3 : Int32} {a4 : Int32} {a5 : Int32} {v : Int32} {h1 : e_H} (hd : 2 ≤ d) (e : f_X1_feed F h a0 a1 a2 a3 a4 a5 = some (v, h1)) : e_Run l D B d mX1_feed [.ref a0, .int a1, .int a2, .int a3, .int a4, .int a5] h (.ok (some (.int v)), h1) := by
  refine e_start [some (.ref a0), some (.int a1), some (.int a2), some (.int a3), some (.int a4), some (.int a5)] (by decide) rfl rfl rfl (Nat.le_of_ble_eq_true rfl) (fun K hl0 hD0 hB0 hM hd0 hr => ?_)
  subst hl0 hD0 hB0 hd0
  have ho : (k_M K).1.cls = "PegBands" := by rw [hM]; rfl
  have hT : (k_M K).2.2.2.1 = some (.int) := by rw [hM]
  refine (show Sx K cX1_feed 0 [some (.ref a0), some (.int a1), some (.int a2), some (.int a3), some (.int a4), some (.int a5)] [] h (f_X1_feed F h a0 a1 a2 a3 a4 a5) (fun w => w = (v, h1)) from ?_) _ e rfl
  clear e
  unfold f_X1_feed
  refine S_aload_n (dc_X1_feed 0 rfl) rfl ?_
  refine S_getI (dc_X1_feed 1 rfl) ho fl_X1_153_0_1 (fun _ _ => rfl) (fun x1 e1 => ?_)
  refine S_bipush_ 20 (dc_X1_feed 2 rfl) rfl ?_
  refine S_iadd (dc_X1_feed 3 rfl) ?_
  refine S_sipush_ 640 (dc_X1_feed 4 rfl) rfl ?_
  refine S_icmp_le 15 (dc_X1_feed 5 rfl) rfl (fun c10 => ?_) (fun c10 => ?_)
  · refine S_aload_n (dc_X1_feed 8 rfl) rfl ?_
    refine S_iload_n (dc_X1_feed 9 rfl) rfl ?_
    refine S_rwV (d := k_d K - 1) (e_callV (b := a0) (As := [.int a1]) (rest := []) ok_X1_four rfl (Nat.le_of_ble_eq_true rfl) (dc_X1_feed 10 rfl) ho q574 q576 (show e_cl[0]? = some (RX1, TX1, 37) from rfl) (e_sel.of qs1) (e_fI_of e1).1 rfl (Nat.le_of_ble_eq_true rfl)) (by omega) (fun _ e => ct_X1_four (by omega) e) (fun h17 e17 => ?_)
    refine S_aload_n (dc_X1_feed 11 rfl) rfl ?_
    refine S_iload_n (dc_X1_feed 12 rfl) rfl ?_
    refine Sx.ask (fun _ i22 => ?_)
    refine S_rwV (d := k_d K - 1) (e_callV (b := a0) (As := [.int a2]) (rest := []) ok_X1_four rfl (Nat.le_of_ble_eq_true rfl) (dc_X1_feed 13 rfl) ho q574 q576 (show e_cl[0]? = some (RX1, TX1, 37) from rfl) (e_sel.of qs1) (e_is_of i22) rfl (Nat.le_of_ble_eq_true rfl)) (by omega) (fun _ e => ct_X1_four (by omega) e) (fun h22 e22 => ?_)
    refine S_aload_n (dc_X1_feed 14 rfl) rfl ?_
    refine S_iload_n (dc_X1_feed 15 rfl) rfl ?_
    refine Sx.ask (fun _ i27 => ?_)
    refine S_rwV (d := k_d K - 1) (e_callV (b := a0) (As := [.int a3]) (rest := []) ok_X1_four rfl (Nat.le_of_ble_eq_true rfl) (dc_X1_feed 16 rfl) ho q574 q576 (show e_cl[0]? = some (RX1, TX1, 37) from rfl) (e_sel.of qs1) (e_is_of i27) rfl (Nat.le_of_ble_eq_true rfl)) (by omega) (fun _ e => ct_X1_four (by omega) e) (fun h27 e27 => ?_)
    refine S_aload_n (dc_X1_feed 17 rfl) rfl ?_
    refine S_iload (dc_X1_feed 18 rfl) rfl ?_
    refine Sx.ask (fun _ i33 => ?_)
    refine S_rwV (d := k_d K - 1) (e_callV (b := a0) (As := [.int a4]) (rest := []) ok_X1_four rfl (Nat.le_of_ble_eq_true rfl) (dc_X1_feed 19 rfl) ho q574 q576 (show e_cl[0]? = some (RX1, TX1, 37) from rfl) (e_sel.of qs1) (e_is_of i33) rfl (Nat.le_of_ble_eq_true rfl)) (by omega) (fun _ e => ct_X1_four (by omega) e) (fun h33 e33 => ?_)
    refine S_aload_n (dc_X1_feed 20 rfl) rfl ?_
    refine S_iload (dc_X1_feed 21 rfl) rfl ?_
    refine Sx.ask (fun _ i39 => ?_)
    refine S_rwV (d := k_d K - 1) (e_callV (b := a0) (As := [.int a5]) (rest := []) ok_X1_four rfl (Nat.le_of_ble_eq_true rfl) (dc_X1_feed 22 rfl) ho q574 q576 (show e_cl[0]? = some (RX1, TX1, 37) from rfl) (e_sel.of qs1) (e_is_of i39) rfl (Nat.le_of_ble_eq_true rfl)) (by omega) (fun _ e => ct_X1_four (by omega) e) (fun h39 e39 => ?_)
    refine S_aload_n (dc_X1_feed 23 rfl) rfl ?_
    refine S_getI (dc_X1_feed 24 rfl) ho fl_X1_153_0_1 (fun _ _ => rfl) (fun x43 e43 => ?_)
    exact S_iret (dc_X1_feed 25 rfl) hT rfl (e_rqI hr)
  · refine S_iconst_ (-1) (dc_X1_feed 6 rfl) rfl ?_
    exact S_iret (dc_X1_feed 7 rfl) hT rfl (e_rqI hr)
abbrev cX1_end : ByteArray := prog_1_method_4_code
def yX1_end : MethodName := ⟨"PegBands", "end", "(I)Z"⟩
def tb_X1_end : List (Nat × Instr × Nat) := [(0, .iload_n 1, 1), (1, .ifCond .lt 11, 3), (4, .iload_n 1, 1), (5, .aload_n 0, 1), (6, .getfield 153, 3), (9, .if_icmp .le 5, 3), (12, .iconst 0, 1), (13, .ireturn, 1), (14, .aload_n 0, 1), (15, .iload_n 1, 1), (16, .putfield 153, 3), (19, .iconst 1, 1), (20, .ireturn, 1)]
theorem tk_X1_end : ∀ q ∈ tb_X1_end, decode cX1_end q.1 = .ok q.2 := by decide +kernel
theorem dc_X1_end (k : Nat) {pc n : Nat} {i : Instr} (h : tb_X1_end[k]? = some (pc, i, n)) : decode cX1_end pc = .ok (i, n) := tk_X1_end (pc, i, n) (List.mem_of_getElem? h)
abbrev mX1_end : e_M := (yX1_end, cX1_end, 2, some (.boolean), [])
theorem ok_X1_end : e_mok mX1_end 1 := ⟨q581, q108, by decide +kernel, fun sig h => by cases h; rfl⟩
def f_X1_end (h : e_H) (a0 : Nat) (a1 : Int32) : Option (Int32 × e_H) :=
  if a1 < 0 then
    some (0, h)
  else
    Option.bind (e_fI h a0 0 1) (fun x6 =>
    if a1 ≤ x6 then
      Option.bind (e_gI h a0 0 1 a1) (fun h16 =>
      some (1, h16))
    else
      some (0, h))
set_option maxHeartbeats 4000000 in
set_option maxRecDepth 100000 in
theorem ct_X1_end {l : Launch} {D : e_D} {B : Heap} {d : Nat} {h : e_H} {a0 : Nat} {a1 : Int32} {v : Int32} {h1 : e_H} (hd : 1 ≤ d) (e : f_X1_end h a0 a1 = some (v, h1)) : e_Run l D B d mX1_end [.ref a0, .int a1] h (.ok (some (.int v)), h1) := by
  refine e_start [some (.ref a0), some (.int a1)] (by decide) rfl rfl rfl (Nat.le_of_ble_eq_true rfl) (fun K hl0 hD0 hB0 hM hd0 hr => ?_)
  subst hl0 hD0 hB0 hd0
  have ho : (k_M K).1.cls = "PegBands" := by rw [hM]; rfl
  have hT : (k_M K).2.2.2.1 = some (.boolean) := by rw [hM]
  refine (show Sx K cX1_end 0 [some (.ref a0), some (.int a1)] [] h (f_X1_end h a0 a1) (fun w => w = (v, h1)) from ?_) _ e rfl
  clear e
  unfold f_X1_end
  refine S_iload_n (dc_X1_end 0 rfl) rfl ?_
  refine S_if_lt 12 (dc_X1_end 1 rfl) rfl (fun c1 => ?_) (fun c1 => ?_)
  · refine S_iconst_ 0 (dc_X1_end 6 rfl) rfl ?_
    exact S_iret (dc_X1_end 7 rfl) hT rfl (e_rqI hr)
  · refine S_iload_n (dc_X1_end 2 rfl) rfl ?_
    refine S_aload_n (dc_X1_end 3 rfl) rfl ?_
    refine S_getI (dc_X1_end 4 rfl) ho fl_X1_153_0_1 (fun _ _ => rfl) (fun x6 e6 => ?_)
    refine S_icmp_le 14 (dc_X1_end 5 rfl) rfl (fun c9 => ?_) (fun c9 => ?_)
    · refine S_aload_n (dc_X1_end 8 rfl) rfl ?_
      refine S_iload_n (dc_X1_end 9 rfl) rfl ?_
      refine S_putI (dc_X1_end 10 rfl) ho fl_X1_153_0_1 (fun _ _ => rfl) (Or.inl rfl) rfl rfl (fun h16 e16 => ?_)
      refine S_iconst_ 1 (dc_X1_end 11 rfl) rfl ?_
      exact S_iret (dc_X1_end 12 rfl) hT rfl (e_rqI hr)
    · refine S_iconst_ 0 (dc_X1_end 6 rfl) rfl ?_
      exact S_iret (dc_X1_end 7 rfl) hT rfl (e_rqI hr)
abbrev cX1_taken : ByteArray := prog_1_method_5_code
def yX1_taken : MethodName := ⟨"PegBands", "taken", "()V"⟩
def tb_X1_taken : List (Nat × Instr × Nat) := [(0, .aload_n 0, 1), (1, .aload_n 0, 1), (2, .getfield 153, 3), (5, .putfield 161, 3), (8, .aload_n 0, 1), (9, .iconst 0, 1), (10, .putfield 153, 3), (13, .return_, 1)]
theorem tk_X1_taken : ∀ q ∈ tb_X1_taken, decode cX1_taken q.1 = .ok q.2 := by decide +kernel
theorem dc_X1_taken (k : Nat) {pc n : Nat} {i : Instr} (h : tb_X1_taken[k]? = some (pc, i, n)) : decode cX1_taken pc = .ok (i, n) := tk_X1_taken (pc, i, n) (List.mem_of_getElem? h)
abbrev mX1_taken : e_M := (yX1_taken, cX1_taken, 1, none, [])
theorem ok_X1_taken : e_mok mX1_taken 0 := ⟨q589, q108, by decide +kernel, fun sig h => by cases h; rfl⟩
theorem fl_X1_161_0_2 : e_FL "PegBands" 161 0 2 := ⟨_, rfl, by decide, Or.inl q454⟩
def f_X1_taken (h : e_H) (a0 : Nat) : Option e_H :=
  Option.bind (e_fI h a0 0 1) (fun x2 =>
  Option.bind (e_gI h a0 0 2 x2) (fun h5 =>
  Option.bind (e_gI h5 a0 0 1 0) (fun h10 =>
  some h10)))
set_option maxHeartbeats 4000000 in
set_option maxRecDepth 100000 in
theorem ct_X1_taken {l : Launch} {D : e_D} {B : Heap} {d : Nat} {h : e_H} {a0 : Nat} {h1 : e_H} (hd : 1 ≤ d) (e : f_X1_taken h a0 = some h1) : e_Run l D B d mX1_taken [.ref a0] h (.ok none, h1) := by
  refine e_start [some (.ref a0)] (by decide) rfl rfl rfl (Nat.le_of_ble_eq_true rfl) (fun K hl0 hD0 hB0 hM hd0 hr => ?_)
  subst hl0 hD0 hB0 hd0
  have ho : (k_M K).1.cls = "PegBands" := by rw [hM]; rfl
  have hT : (k_M K).2.2.2.1 = none := by rw [hM]
  refine (show Sx K cX1_taken 0 [some (.ref a0)] [] h (f_X1_taken h a0) (fun w => w = h1) from ?_) _ e rfl
  clear e
  unfold f_X1_taken
  refine S_aload_n (dc_X1_taken 0 rfl) rfl ?_
  refine S_aload_n (dc_X1_taken 1 rfl) rfl ?_
  refine S_getI (dc_X1_taken 2 rfl) ho fl_X1_153_0_1 (fun _ _ => rfl) (fun x2 e2 => ?_)
  refine S_putI (dc_X1_taken 3 rfl) ho fl_X1_161_0_2 (fun _ _ => rfl) (Or.inl rfl) rfl rfl (fun h5 e5 => ?_)
  refine S_aload_n (dc_X1_taken 4 rfl) rfl ?_
  refine S_iconst_ 0 (dc_X1_taken 5 rfl) rfl ?_
  refine S_putI (dc_X1_taken 6 rfl) ho fl_X1_153_0_1 (fun _ _ => rfl) (Or.inl rfl) rfl rfl (fun h10 e10 => ?_)
  exact S_vret (dc_X1_taken 7 rfl) hT (fun q => by cases q; exact hr)
