/-! printed by gen/gen.py -/
set_option maxRecDepth 100000
abbrev cX8_why : ByteArray := prog_3_method_19_code
def yX8_why : MethodName := ⟨"PegBands$Band", "why", "()I"⟩
def tb_X8_why : List (Nat × Instr × Nat) := [(0, .iconst 0, 1), (1, .istore_n 1, 1), (2, .iload_n 1, 1), (3, .aload_n 0, 1), (4, .getfield 28, 3), (7, .if_icmp .ge 54, 3), (10, .iconst 0, 1), (11, .istore_n 2, 1), (12, .iload_n 2, 1), (13, .iload_n 1, 1), (14, .if_icmp .ge 41, 3), (17, .aload_n 0, 1), (18, .getfield 9, 3), (21, .iload_n 1, 1), (22, .iaload, 1), (23, .aload_n 0, 1), (24, .getfield 9, 3), (27, .iload_n 2, 1), (28, .iaload, 1), (29, .if_icmp .ne 20, 3), (32, .aload_n 0, 1), (33, .getfield 15, 3), (36, .iload_n 1, 1), (37, .iaload, 1), (38, .aload_n 0, 1), (39, .getfield 15, 3), (42, .iload_n 2, 1), (43, .iaload, 1), (44, .if_icmp .ne 5, 3), (47, .iconst 2, 1), (48, .ireturn, 1), (49, .iinc 2 1, 3), (52, .goto (-40), 3), (55, .iinc 1 1, 3), (58, .goto (-56), 3), (61, .iconst 0, 1), (62, .istore_n 1, 1), (63, .iload_n 1, 1), (64, .aload_n 0, 1), (65, .getfield 28, 3), (68, .if_icmp .ge 19, 3), (71, .aload_n 0, 1), (72, .iload_n 1, 1), (73, .invokevirtual 63, 3), (76, .ifCond .ne 5, 3), (79, .iconst 3, 1), (80, .ireturn, 1), (81, .iinc 1 1, 3), (84, .goto (-21), 3), (87, .iconst 0, 1), (88, .istore_n 1, 1), (89, .iload_n 1, 1), (90, .aload_n 0, 1), (91, .getfield 28, 3), (94, .if_icmp .ge 52, 3), (97, .iconst 0, 1), (98, .istore_n 2, 1), (99, .iload_n 2, 1), (100, .iload_n 1, 1), (101, .if_icmp .ge 39, 3), (104, .aload_n 0, 1), (105, .iload_n 1, 1), (106, .invokevirtual 40, 3), (109, .iload_n 2, 1), (110, .if_icmp .eq 24, 3), (113, .aload_n 0, 1), (114, .iload_n 2, 1), (115, .invokevirtual 40, 3), (118, .iload_n 1, 1), (119, .if_icmp .eq 15, 3), (122, .aload_n 0, 1), (123, .iload_n 1, 1), (124, .aload_n 0, 1), (125, .iload_n 2, 1), (126, .invokevirtual 78, 3), (129, .ifCond .eq 5, 3), (132, .iconst 4, 1), (133, .ireturn, 1), (134, .iinc 2 1, 3), (137, .goto (-38), 3), (140, .iinc 1 1, 3), (143, .goto (-54), 3), (146, .iconst 0, 1), (147, .ireturn, 1)]
theorem tk_X8_why : ∀ q ∈ tb_X8_why, decode cX8_why q.1 = .ok q.2 := by decide +kernel
theorem dc_X8_why (k : Nat) {pc n : Nat} {i : Instr} (h : tb_X8_why[k]? = some (pc, i, n)) : decode cX8_why pc = .ok (i, n) := tk_X8_why (pc, i, n) (List.mem_of_getElem? h)
abbrev mX8_why : e_M := (yX8_why, cX8_why, 3, some (.int), [])
theorem ok_X8_why : e_mok mX8_why 0 := ⟨q789, q117, by decide +kernel, fun sig h => by cases h; rfl⟩
def lp_X8_why_12 (F : Nat) (h : e_H) (a0 : Nat) (x1_2 : Int32) : Nat → Int32 → Option (Except (Except Int32 Unit) Unit)
  | 0, _ => none
  | n + 1, x2_12 =>
    if x1_2 ≤ x2_12 then
      some (.ok ())
    else
      Option.bind (e_fA h a0 6 0) (fun x18 =>
      Option.bind (e_aI h x18 0 x1_2) (fun x22 =>
      Option.bind (e_fA h a0 6 0) (fun x24 =>
      Option.bind (e_aI h x24 0 x2_12) (fun x28 =>
      e_bE (
          if x22 = x28 then
            Option.bind (e_fA h a0 6 1) (fun x33 =>
            Option.bind (e_aI h x33 0 x1_2) (fun x37 =>
            Option.bind (e_fA h a0 6 1) (fun x39 =>
            Option.bind (e_aI h x39 0 x2_12) (fun x43 =>
            if x37 = x43 then
              some (.error (.error (.error 2)))
            else
              some (.ok ())))))
          else
            some (.ok ())
        : Option (Except (Except (Except Int32 Unit) Unit) Unit)) (fun _ =>
      Option.bind (some (x2_12 + 1)) (fun x49 =>
      lp_X8_why_12 F h a0 x1_2 n x49))))))
def lp_X8_why_2 (F : Nat) (h : e_H) (a0 : Nat) : Nat → Int32 → Option (Except Int32 Unit)
  | 0, _ => none
  | n + 1, x1_2 =>
    Option.bind (e_fI h a0 6 2) (fun x4 =>
    if x4 ≤ x1_2 then
      some (.ok ())
    else
      e_bE (
          lp_X8_why_12 F h a0 x1_2 F 0
        : Option (Except (Except Int32 Unit) Unit)) (fun _ =>
      Option.bind (some (x1_2 + 1)) (fun x55 =>
      lp_X8_why_2 F h a0 n x55)))
def lp_X8_why_63 (F : Nat) (h : e_H) (a0 : Nat) : Nat → Int32 → Option (Except Int32 Unit)
  | 0, _ => none
  | n + 1, x1_63 =>
    Option.bind (e_fI h a0 6 2) (fun x65 =>
    if x65 ≤ x1_63 then
      some (.ok ())
    else
      Option.bind (f_X8_turnAt h a0 x1_63) (fun x73 =>
      if x73 = 0 then
        some (.error 3)
      else
        Option.bind (some (x1_63 + 1)) (fun x81 =>
        lp_X8_why_63 F h a0 n x81)))
def lp_X8_why_99 (F : Nat) (h : e_H) (a0 : Nat) (x1_89 : Int32) : Nat → Int32 → Option (Except (Except Int32 Unit) Unit)
  | 0, _ => none
  | n + 1, x2_99 =>
    if x1_89 ≤ x2_99 then
      some (.ok ())
    else
      Option.bind (f_X8_next h a0 x1_89) (fun x106 =>
      e_bE (
          if x106 = x2_99 then
            some (.ok ())
          else
            Option.bind (f_X8_next h a0 x2_99) (fun x115 =>
            if x115 = x1_89 then
              some (.ok ())
            else
              Option.bind (f_X8_meeting h a0 x1_89 a0 x2_99) (fun x126 =>
              if x126 = 0 then
                some (.ok ())
              else
                some (.error (.error (.error 4)))))
        : Option (Except (Except (Except Int32 Unit) Unit) Unit)) (fun _ =>
      Option.bind (some (x2_99 + 1)) (fun x134 =>
      lp_X8_why_99 F h a0 x1_89 n x134)))
def lp_X8_why_89 (F : Nat) (h : e_H) (a0 : Nat) : Nat → Int32 → Option (Except Int32 Unit)
  | 0, _ => none
  | n + 1, x1_89 =>
    Option.bind (e_fI h a0 6 2) (fun x91 =>
    if x91 ≤ x1_89 then
      some (.ok ())
    else
      e_bE (
          lp_X8_why_99 F h a0 x1_89 F 0
        : Option (Except (Except Int32 Unit) Unit)) (fun _ =>
      Option.bind (some (x1_89 + 1)) (fun x140 =>
      lp_X8_why_89 F h a0 n x140)))
def f_X8_why (F : Nat) (h : e_H) (a0 : Nat) : Option Int32 :=
  e_bE (
      lp_X8_why_2 F h a0 F 0
    : Option (Except Int32 Unit)) (fun _ =>
  e_bE (
      lp_X8_why_63 F h a0 F 0
    : Option (Except Int32 Unit)) (fun _ =>
  e_bE (
      lp_X8_why_89 F h a0 F 0
    : Option (Except Int32 Unit)) (fun _ =>
  some 0)))
set_option maxHeartbeats 4000000 in
set_option maxRecDepth 100000 in
theorem ct_X8_why {l : Launch} {D : e_D} {B : Heap} {F : Nat} {d : Nat} {h : e_H} {a0 : Nat} {v : Int32} (hd : 5 ≤ d) (e : f_X8_why F h a0 = some v) : e_Run l D B d mX8_why [.ref a0] h (.ok (some (.int v)), h) := by
  refine e_start [some (.ref a0), none, none] (by decide) rfl rfl rfl (Nat.le_of_ble_eq_true rfl) (fun K hl0 hD0 hB0 hM hd0 hr => ?_)
  subst hl0 hD0 hB0 hd0
  have ho : (k_M K).1.cls = "PegBands$Band" := by rw [hM]; rfl
  have hT : (k_M K).2.2.2.1 = some (.int) := by rw [hM]
  refine (show Sx K cX8_why 0 [some (.ref a0), none, none] [] h (f_X8_why F h a0) (fun w => w = v) from ?_) _ e rfl
  clear e
  unfold f_X8_why
  refine S_iconst_ 0 (dc_X8_why 0 rfl) rfl ?_
  refine S_istore_n (L' := [some (.ref a0), some (.int 0), none]) (dc_X8_why 1 rfl) rfl ?_
  refine Sx.regKE0 (pc2 := 61) (L2 := [some (.ref a0), none, none]) (st2 := []) (h2 := h) ?_ (fun Q1 hK1 hE1 => ?_)
  · skip
    refine S_iconst_ 0 (dc_X8_why 35 rfl) rfl ?_
    refine S_istore_n (L' := [some (.ref a0), some (.int 0), none]) (dc_X8_why 36 rfl) rfl ?_
    refine Sx.regKE0 (pc2 := 87) (L2 := [some (.ref a0), none, none]) (st2 := []) (h2 := h) ?_ (fun Q4 hK4 hE4 => ?_)
    · skip
      refine S_iconst_ 0 (dc_X8_why 49 rfl) rfl ?_
      refine S_istore_n (L' := [some (.ref a0), some (.int 0), none]) (dc_X8_why 50 rfl) rfl ?_
      refine Sx.regKE0 (pc2 := 146) (L2 := [none, none, none]) (st2 := []) (h2 := h) ?_ (fun Q5 hK5 hE5 => ?_)
      · skip
        refine S_iconst_ 0 (dc_X8_why 82 rfl) rfl ?_
        exact S_iret (dc_X8_why 83 rfl) hT rfl (fun q => by cases q; exact hr)
      · have hK5 : Sx K cX8_why 146 [none, none, none] [] h (some (.ok ())) Q5 := hK5
        have ih5 : ∀ (n : Nat) (x1_89 : Int32), Sx K cX8_why 89 [some (.ref a0), some (.int x1_89), none] [] h (lp_X8_why_89 F h a0 n x1_89) Q5 := by
          intro n
          induction n with
          | zero => intro x1_89; exact Sx.none
          | succ n ih5 =>
            intro x1_89
            rw [lp_X8_why_89.eq_2]
            refine S_iload_n (dc_X8_why 51 rfl) rfl ?_
            refine S_aload_n (dc_X8_why 52 rfl) rfl ?_
            refine S_getI (dc_X8_why 53 rfl) ho fl_X8_28_6_2 (fun _ _ => rfl) (fun x91 e91 => ?_)
            refine S_icmp_ge 146 (dc_X8_why 54 rfl) rfl (fun c94 => ?_) (fun c94 => ?_)
            · refine Sx.cut [false, false, true] ?_
              exact hK5
            · refine S_iconst_ 0 (dc_X8_why 55 rfl) rfl ?_
              refine S_istore_n (L' := [some (.ref a0), some (.int x1_89), some (.int 0)]) (dc_X8_why 56 rfl) rfl ?_
              refine Sx.regKE0 (pc2 := 140) (L2 := [some (.ref a0), some (.int x1_89), none]) (st2 := []) (h2 := h) ?_ (fun Q6 hK6 hE6 => ?_)
              · skip
                refine S_iincN 1 (L' := fun x140 => [some (.ref a0), some (.int x140), none]) (dc_X8_why 80 rfl) rfl rfl (fun _ => rfl) (fun x140 n140 => ?_)
                refine S_goto 89 (dc_X8_why 81 rfl) rfl ?_
                exact ih5 x140
              · have hK6 : Sx K cX8_why 140 [some (.ref a0), some (.int x1_89), none] [] h (some (.ok ())) Q6 := hK6
                have ih6 : ∀ (n : Nat) (x2_99 : Int32), Sx K cX8_why 99 [some (.ref a0), some (.int x1_89), some (.int x2_99)] [] h (lp_X8_why_99 F h a0 x1_89 n x2_99) Q6 := by
                  intro n
                  induction n with
                  | zero => intro x2_99; exact Sx.none
                  | succ n ih6 =>
                    intro x2_99
                    rw [lp_X8_why_99.eq_2]
                    refine S_iload_n (dc_X8_why 57 rfl) rfl ?_
                    refine S_iload_n (dc_X8_why 58 rfl) rfl ?_
                    refine S_icmp_ge 140 (dc_X8_why 59 rfl) rfl (fun c101 => ?_) (fun c101 => ?_)
                    · refine Sx.cut [true, true, false] ?_
                      exact hK6
                    · refine S_aload_n (dc_X8_why 60 rfl) rfl ?_
                      refine S_iload_n (dc_X8_why 61 rfl) rfl ?_
                      refine S_roI (d := k_d K - 1) (e_callV (b := a0) (As := [.int x1_89]) (rest := []) ok_X8_next rfl (Nat.le_of_ble_eq_true rfl) (dc_X8_why 62 rfl) ho q798 q799 (show e_cl[6]? = some (RX8, TX8, 4) from rfl) (e_sel.of q800) (e_fI_of e91).1 rfl (Nat.le_of_ble_eq_true rfl)) (by omega) (fun _ e => ct_X8_next (by omega) e) (fun x106 e106 => ?_)
                      refine S_iload_n (dc_X8_why 63 rfl) rfl ?_
                      refine Sx.regKE0 (pc2 := 134) (L2 := [some (.ref a0), some (.int x1_89), some (.int x2_99)]) (st2 := []) (h2 := h) ?_ (fun Q7 hK7 hE7 => ?_)
                      · skip
                        refine S_iincN 1 (L' := fun x134 => [some (.ref a0), some (.int x1_89), some (.int x134)]) (dc_X8_why 78 rfl) rfl rfl (fun _ => rfl) (fun x134 n134 => ?_)
                        refine S_goto 99 (dc_X8_why 79 rfl) rfl ?_
                        exact ih6 x134
                      · have hK7 : Sx K cX8_why 134 [some (.ref a0), some (.int x1_89), some (.int x2_99)] [] h (some (.ok ())) Q7 := hK7
                        refine S_icmp_eq 134 (dc_X8_why 64 rfl) rfl (fun c110 => ?_) (fun c110 => ?_)
                        · exact hK7
                        · refine S_aload_n (dc_X8_why 65 rfl) rfl ?_
                          refine S_iload_n (dc_X8_why 66 rfl) rfl ?_
                          refine S_roI (d := k_d K - 1) (e_callV (b := a0) (As := [.int x2_99]) (rest := []) ok_X8_next rfl (Nat.le_of_ble_eq_true rfl) (dc_X8_why 67 rfl) ho q798 q799 (show e_cl[6]? = some (RX8, TX8, 4) from rfl) (e_sel.of q800) (e_fI_of e91).1 rfl (Nat.le_of_ble_eq_true rfl)) (by omega) (fun _ e => ct_X8_next (by omega) e) (fun x115 e115 => ?_)
                          refine S_iload_n (dc_X8_why 68 rfl) rfl ?_
                          refine S_icmp_eq 134 (dc_X8_why 69 rfl) rfl (fun c119 => ?_) (fun c119 => ?_)
                          · exact hK7
                          · refine S_aload_n (dc_X8_why 70 rfl) rfl ?_
                            refine S_iload_n (dc_X8_why 71 rfl) rfl ?_
                            refine S_aload_n (dc_X8_why 72 rfl) rfl ?_
                            refine S_iload_n (dc_X8_why 73 rfl) rfl ?_
                            refine S_roI (d := k_d K - 1) (e_callV (b := a0) (As := [.int x1_89, .ref a0, .int x2_99]) (rest := []) ok_X8_meeting rfl (Nat.le_of_ble_eq_true rfl) (dc_X8_why 74 rfl) ho q805 q806 (show e_cl[6]? = some (RX8, TX8, 4) from rfl) (e_sel.of q807) (e_fI_of e91).1 rfl (Nat.le_of_ble_eq_true rfl)) (by omega) (fun _ e => ct_X8_meeting (by omega) e) (fun x126 e126 => ?_)
                            refine S_if_eq 134 (dc_X8_why 75 rfl) rfl (fun c129 => ?_) (fun c129 => ?_)
                            · exact hK7
                            · refine S_iconst_ 4 (dc_X8_why 76 rfl) rfl ?_
                              refine Sx.err hE7 ?_
                              refine Sx.err hE6 ?_
                              refine Sx.err hE5 ?_
                              exact S_iret (dc_X8_why 77 rfl) hT rfl (fun q => by cases q; exact hr)
                exact ih6 F 0
        exact ih5 F 0
    · have hK4 : Sx K cX8_why 87 [some (.ref a0), none, none] [] h (some (.ok ())) Q4 := hK4
      have ih4 : ∀ (n : Nat) (x1_63 : Int32), Sx K cX8_why 63 [some (.ref a0), some (.int x1_63), none] [] h (lp_X8_why_63 F h a0 n x1_63) Q4 := by
        intro n
        induction n with
        | zero => intro x1_63; exact Sx.none
        | succ n ih4 =>
          intro x1_63
          rw [lp_X8_why_63.eq_2]
          refine S_iload_n (dc_X8_why 37 rfl) rfl ?_
          refine S_aload_n (dc_X8_why 38 rfl) rfl ?_
          refine S_getI (dc_X8_why 39 rfl) ho fl_X8_28_6_2 (fun _ _ => rfl) (fun x65 e65 => ?_)
          refine S_icmp_ge 87 (dc_X8_why 40 rfl) rfl (fun c68 => ?_) (fun c68 => ?_)
          · refine Sx.cut [true, false, true] ?_
            exact hK4
          · refine S_aload_n (dc_X8_why 41 rfl) rfl ?_
            refine S_iload_n (dc_X8_why 42 rfl) rfl ?_
            refine S_roI (d := k_d K - 1) (e_callV (b := a0) (As := [.int x1_63]) (rest := []) ok_X8_turnAt rfl (Nat.le_of_ble_eq_true rfl) (dc_X8_why 43 rfl) ho q790 q791 (show e_cl[6]? = some (RX8, TX8, 4) from rfl) (e_sel.of q792) (e_fI_of e65).1 rfl (Nat.le_of_ble_eq_true rfl)) (by omega) (fun _ e => ct_X8_turnAt (by omega) e) (fun x73 e73 => ?_)
            refine S_if_ne 81 (dc_X8_why 44 rfl) rfl (fun c76 => ?_) (fun c76 => ?_)
            · refine S_iincN 1 (L' := fun x81 => [some (.ref a0), some (.int x81), none]) (dc_X8_why 47 rfl) rfl rfl (fun _ => rfl) (fun x81 n81 => ?_)
              refine S_goto 63 (dc_X8_why 48 rfl) rfl ?_
              exact ih4 x81
            · refine S_iconst_ 3 (dc_X8_why 45 rfl) rfl ?_
              refine Sx.err hE4 ?_
              exact S_iret (dc_X8_why 46 rfl) hT rfl (fun q => by cases q; exact hr)
      exact ih4 F 0
  · have hK1 : Sx K cX8_why 61 [some (.ref a0), none, none] [] h (some (.ok ())) Q1 := hK1
    have ih1 : ∀ (n : Nat) (x1_2 : Int32), Sx K cX8_why 2 [some (.ref a0), some (.int x1_2), none] [] h (lp_X8_why_2 F h a0 n x1_2) Q1 := by
      intro n
      induction n with
      | zero => intro x1_2; exact Sx.none
      | succ n ih1 =>
        intro x1_2
        rw [lp_X8_why_2.eq_2]
        refine S_iload_n (dc_X8_why 2 rfl) rfl ?_
        refine S_aload_n (dc_X8_why 3 rfl) rfl ?_
        refine S_getI (dc_X8_why 4 rfl) ho fl_X8_28_6_2 (fun _ _ => rfl) (fun x4 e4 => ?_)
        refine S_icmp_ge 61 (dc_X8_why 5 rfl) rfl (fun c7 => ?_) (fun c7 => ?_)
        · refine Sx.cut [true, false, true] ?_
          exact hK1
        · refine S_iconst_ 0 (dc_X8_why 6 rfl) rfl ?_
          refine S_istore_n (L' := [some (.ref a0), some (.int x1_2), some (.int 0)]) (dc_X8_why 7 rfl) rfl ?_
          refine Sx.regKE0 (pc2 := 55) (L2 := [some (.ref a0), some (.int x1_2), none]) (st2 := []) (h2 := h) ?_ (fun Q2 hK2 hE2 => ?_)
          · skip
            refine S_iincN 1 (L' := fun x55 => [some (.ref a0), some (.int x55), none]) (dc_X8_why 33 rfl) rfl rfl (fun _ => rfl) (fun x55 n55 => ?_)
            refine S_goto 2 (dc_X8_why 34 rfl) rfl ?_
            exact ih1 x55
          · have hK2 : Sx K cX8_why 55 [some (.ref a0), some (.int x1_2), none] [] h (some (.ok ())) Q2 := hK2
            have ih2 : ∀ (n : Nat) (x2_12 : Int32), Sx K cX8_why 12 [some (.ref a0), some (.int x1_2), some (.int x2_12)] [] h (lp_X8_why_12 F h a0 x1_2 n x2_12) Q2 := by
              intro n
              induction n with
              | zero => intro x2_12; exact Sx.none
              | succ n ih2 =>
                intro x2_12
                rw [lp_X8_why_12.eq_2]
                refine S_iload_n (dc_X8_why 8 rfl) rfl ?_
                refine S_iload_n (dc_X8_why 9 rfl) rfl ?_
                refine S_icmp_ge 55 (dc_X8_why 10 rfl) rfl (fun c14 => ?_) (fun c14 => ?_)
                · refine Sx.cut [true, true, false] ?_
                  exact hK2
                · refine S_aload_n (dc_X8_why 11 rfl) rfl ?_
                  refine S_getA (dc_X8_why 12 rfl) ho fl_X8_9_6_0 (fun _ _ => rfl) (fun x18 e18 => ?_)
                  refine S_iload_n (dc_X8_why 13 rfl) rfl ?_
                  refine S_iald (dc_X8_why 14 rfl) (fun x22 e22 => ?_)
                  refine S_aload_n (dc_X8_why 15 rfl) rfl ?_
                  refine S_getA (dc_X8_why 16 rfl) ho fl_X8_9_6_0 (fun _ _ => rfl) (fun x24 e24 => ?_)
                  refine S_iload_n (dc_X8_why 17 rfl) rfl ?_
                  refine S_iald (dc_X8_why 18 rfl) (fun x28 e28 => ?_)
                  refine Sx.regKE0 (pc2 := 49) (L2 := [some (.ref a0), some (.int x1_2), some (.int x2_12)]) (st2 := []) (h2 := h) ?_ (fun Q3 hK3 hE3 => ?_)
                  · skip
                    refine S_iincN 1 (L' := fun x49 => [some (.ref a0), some (.int x1_2), some (.int x49)]) (dc_X8_why 31 rfl) rfl rfl (fun _ => rfl) (fun x49 n49 => ?_)
                    refine S_goto 12 (dc_X8_why 32 rfl) rfl ?_
                    exact ih2 x49
                  · have hK3 : Sx K cX8_why 49 [some (.ref a0), some (.int x1_2), some (.int x2_12)] [] h (some (.ok ())) Q3 := hK3
                    refine S_icmp_ne 49 (dc_X8_why 19 rfl) rfl (fun c29 => ?_) (fun c29 => ?_)
                    · exact hK3
                    · refine S_aload_n (dc_X8_why 20 rfl) rfl ?_
                      refine S_getA (dc_X8_why 21 rfl) ho fl_X8_15_6_1 (fun _ _ => rfl) (fun x33 e33 => ?_)
                      refine S_iload_n (dc_X8_why 22 rfl) rfl ?_
                      refine S_iald (dc_X8_why 23 rfl) (fun x37 e37 => ?_)
                      refine S_aload_n (dc_X8_why 24 rfl) rfl ?_
                      refine S_getA (dc_X8_why 25 rfl) ho fl_X8_15_6_1 (fun _ _ => rfl) (fun x39 e39 => ?_)
                      refine S_iload_n (dc_X8_why 26 rfl) rfl ?_
                      refine S_iald (dc_X8_why 27 rfl) (fun x43 e43 => ?_)
                      refine S_icmp_ne 49 (dc_X8_why 28 rfl) rfl (fun c44 => ?_) (fun c44 => ?_)
                      · exact hK3
                      · refine S_iconst_ 2 (dc_X8_why 29 rfl) rfl ?_
                        refine Sx.err hE3 ?_
                        refine Sx.err hE2 ?_
                        refine Sx.err hE1 ?_
                        exact S_iret (dc_X8_why 30 rfl) hT rfl (fun q => by cases q; exact hr)
            exact ih2 F 0
    exact ih1 F 0
abbrev cX3_why : ByteArray := prog_4_method_4_code
def yX3_why : MethodName := ⟨"PegBands$Board", "why", "(LPegBands$Band;I)I"⟩
def tb_X3_why : List (Nat × Instr × Nat) := [(0, .iconst 0, 1), (1, .istore_n 3, 1), (2, .iload_n 3, 1), (3, .aload_n 1, 1), (4, .getfield 36, 3), (7, .if_icmp .ge 30, 3), (10, .aload_n 0, 1), (11, .aload_n 1, 1), (12, .getfield 39, 3), (15, .iload_n 3, 1), (16, .iaload, 1), (17, .aload_n 1, 1), (18, .getfield 43, 3), (21, .iload_n 3, 1), (22, .iaload, 1), (23, .invokevirtual 46, 3), (26, .ifCond .ne 5, 3), (29, .iconst 1, 1), (30, .ireturn, 1), (31, .iinc 3 1, 3), (34, .goto (-32), 3), (37, .aload_n 1, 1), (38, .invokevirtual 49, 3), (41, .istore_n 3, 1), (42, .iload_n 3, 1), (43, .ifCond .gt 10, 3), (46, .aload_n 0, 1), (47, .getfield 53, 3), (50, .ifCond .eq 5, 3), (53, .iload_n 3, 1), (54, .ireturn, 1), (55, .iconst 0, 1), (56, .istore 4, 2), (58, .iload 4, 2), (60, .aload_n 0, 1), (61, .getfield 57, 3), (64, .if_icmp .ge 31, 3), (67, .iload 4, 2), (69, .iload_n 2, 1), (70, .if_icmp .eq 19, 3), (73, .aload_n 1, 1), (74, .aload_n 0, 1), (75, .getfield 11, 3), (78, .iload 4, 2), (80, .aaload, 1), (81, .invokevirtual 58, 3), (84, .ifCond .ne 5, 3), (87, .iconst 5, 1), (88, .ireturn, 1), (89, .iinc 4 1, 3), (92, .goto (-34), 3), (95, .iconst 0, 1), (96, .ireturn, 1)]
theorem tk_X3_why : ∀ q ∈ tb_X3_why, decode cX3_why q.1 = .ok q.2 := by decide +kernel
theorem dc_X3_why (k : Nat) {pc n : Nat} {i : Instr} (h : tb_X3_why[k]? = some (pc, i, n)) : decode cX3_why pc = .ok (i, n) := tk_X3_why (pc, i, n) (List.mem_of_getElem? h)
abbrev mX3_why : e_M := (yX3_why, cX3_why, 5, some (.int), [])
theorem ok_X3_why : e_mok mX3_why 2 := ⟨q776, q112, by decide +kernel, fun sig h => by cases h; rfl⟩
theorem fl_X3_36_6_2 : e_FL "PegBands$Board" 36 6 2 := ⟨_, rfl, by decide, Or.inr (Or.inr (Or.inl ⟨_, q400⟩))⟩
theorem fl_X3_39_6_0 : e_FL "PegBands$Board" 39 6 0 := ⟨_, rfl, by decide, Or.inr (Or.inr (Or.inl ⟨_, q393⟩))⟩
theorem fl_X3_43_6_1 : e_FL "PegBands$Board" 43 6 1 := ⟨_, rfl, by decide, Or.inr (Or.inr (Or.inl ⟨_, q396⟩))⟩
theorem fl_X3_53_2_6 : e_FL "PegBands$Board" 53 2 6 := ⟨_, rfl, by decide, Or.inl q265⟩
theorem fl_X3_57_2_4 : e_FL "PegBands$Board" 57 2 4 := ⟨_, rfl, by decide, Or.inl q258⟩
def lp_X3_why_2 (F : Nat) (h : e_H) (a0 : Nat) (a1 : Nat) : Nat → Int32 → Option (Except Int32 Unit)
  | 0, _ => none
  | n + 1, x3_2 =>
    Option.bind (e_fI h a1 6 2) (fun x4 =>
    if x4 ≤ x3_2 then
      some (.ok ())
    else
      Option.bind (e_fA h a1 6 0) (fun x12 =>
      Option.bind (e_aI h x12 0 x3_2) (fun x16 =>
      Option.bind (e_fA h a1 6 1) (fun x18 =>
      Option.bind (e_aI h x18 0 x3_2) (fun x22 =>
      Option.bind (e_is h a0 2) (fun _ =>
      Option.bind (f_X3_isPeg h a0 x16 x22) (fun x23 =>
      if x23 = 0 then
        some (.error 1)
      else
        Option.bind (some (x3_2 + 1)) (fun x31 =>
        lp_X3_why_2 F h a0 a1 n x31))))))))
def lp_X3_why_58 (F : Nat) (h : e_H) (a0 : Nat) (a1 : Nat) (a2 : Int32) : Nat → Int32 → Option (Except Int32 Unit)
  | 0, _ => none
  | n + 1, x4_58 =>
    Option.bind (e_fI h a0 2 4) (fun x61 =>
    if x61 ≤ x4_58 then
      some (.ok ())
    else
      e_bE (
          if x4_58 = a2 then
            some (.ok ())
          else
            Option.bind (e_fA h a0 2 0) (fun x75 =>
            Option.bind (e_aA h x75 4 x4_58) (fun x80 =>
            Option.bind (f_X8_isClear F h a1 x80) (fun x81 =>
            if x81 = 0 then
              some (.error (.error 5))
            else
              some (.ok ()))))
        : Option (Except (Except Int32 Unit) Unit)) (fun _ =>
      Option.bind (some (x4_58 + 1)) (fun x89 =>
      lp_X3_why_58 F h a0 a1 a2 n x89)))
def f_X3_why (F : Nat) (h : e_H) (a0 : Nat) (a1 : Nat) (a2 : Int32) : Option Int32 :=
  e_bE (
      lp_X3_why_2 F h a0 a1 F 0
    : Option (Except Int32 Unit)) (fun _ =>
  Option.bind (e_is h a1 6) (fun _ =>
  Option.bind (f_X8_why F h a1) (fun x38 =>
  if 0 < x38 then
    some x38
  else
    Option.bind (e_fI h a0 2 6) (fun x47 =>
    if x47 = 0 then
      e_bE (
          lp_X3_why_58 F h a0 a1 a2 F 0
        : Option (Except Int32 Unit)) (fun _ =>
      some 0)
    else
      some x38))))
set_option maxHeartbeats 4000000 in
set_option maxRecDepth 100000 in
theorem ct_X3_why {l : Launch} {D : e_D} {B : Heap} {F : Nat} {d : Nat} {h : e_H} {a0 : Nat} {a1 : Nat} {a2 : Int32} {v : Int32} (hd : 7 ≤ d) (e : f_X3_why F h a0 a1 a2 = some v) : e_Run l D B d mX3_why [.ref a0, .ref a1, .int a2] h (.ok (some (.int v)), h) := by
  refine e_start [some (.ref a0), some (.ref a1), some (.int a2), none, none] (by decide) rfl rfl rfl (Nat.le_of_ble_eq_true rfl) (fun K hl0 hD0 hB0 hM hd0 hr => ?_)
  subst hl0 hD0 hB0 hd0
  have ho : (k_M K).1.cls = "PegBands$Board" := by rw [hM]; rfl
  have hT : (k_M K).2.2.2.1 = some (.int) := by rw [hM]
  refine (show Sx K cX3_why 0 [some (.ref a0), some (.ref a1), some (.int a2), none, none] [] h (f_X3_why F h a0 a1 a2) (fun w => w = v) from ?_) _ e rfl
  clear e
  unfold f_X3_why
  refine S_iconst_ 0 (dc_X3_why 0 rfl) rfl ?_
  refine S_istore_n (L' := [some (.ref a0), some (.ref a1), some (.int a2), some (.int 0), none]) (dc_X3_why 1 rfl) rfl ?_
  refine Sx.regKE0 (pc2 := 37) (L2 := [some (.ref a0), some (.ref a1), some (.int a2), none, none]) (st2 := []) (h2 := h) ?_ (fun Q1 hK1 hE1 => ?_)
  · skip
    refine S_aload_n (dc_X3_why 21 rfl) rfl ?_
    refine Sx.ask (fun _ i38 => ?_)
    refine S_roI (d := k_d K - 1) (e_callV (b := a1) (As := []) (rest := []) ok_X8_why rfl (Nat.le_of_ble_eq_true rfl) (dc_X3_why 22 rfl) ho q786 q787 (show e_cl[6]? = some (RX8, TX8, 4) from rfl) (e_sel.of q788) (e_is_of i38) rfl (Nat.le_of_ble_eq_true rfl)) (by omega) (fun _ e => ct_X8_why (by omega) e) (fun x38 e38 => ?_)
    refine S_istore_n (L' := [some (.ref a0), some (.ref a1), some (.int a2), some (.int x38), none]) (dc_X3_why 23 rfl) rfl ?_
    refine S_iload_n (dc_X3_why 24 rfl) rfl ?_
    refine S_if_gt 53 (dc_X3_why 25 rfl) rfl (fun c43 => ?_) (fun c43 => ?_)
    · refine S_iload_n (dc_X3_why 29 rfl) rfl ?_
      exact S_iret (dc_X3_why 30 rfl) hT rfl (fun q => by cases q; exact hr)
    · refine S_aload_n (dc_X3_why 26 rfl) rfl ?_
      refine S_getI (dc_X3_why 27 rfl) ho fl_X3_53_2_6 (fun _ _ => rfl) (fun x47 e47 => ?_)
      refine S_if_eq 55 (dc_X3_why 28 rfl) rfl (fun c50 => ?_) (fun c50 => ?_)
      · refine S_iconst_ 0 (dc_X3_why 31 rfl) rfl ?_
        refine S_istore (L' := [some (.ref a0), some (.ref a1), some (.int a2), some (.int x38), some (.int 0)]) (dc_X3_why 32 rfl) rfl ?_
        refine Sx.regKE0 (pc2 := 95) (L2 := [none, none, none, none, none]) (st2 := []) (h2 := h) ?_ (fun Q2 hK2 hE2 => ?_)
        · skip
          refine S_iconst_ 0 (dc_X3_why 51 rfl) rfl ?_
          exact S_iret (dc_X3_why 52 rfl) hT rfl (fun q => by cases q; exact hr)
        · have hK2 : Sx K cX3_why 95 [none, none, none, none, none] [] h (some (.ok ())) Q2 := hK2
          have ih2 : ∀ (n : Nat) (x4_58 : Int32), Sx K cX3_why 58 [some (.ref a0), some (.ref a1), some (.int a2), none, some (.int x4_58)] [] h (lp_X3_why_58 F h a0 a1 a2 n x4_58) Q2 := by
            intro n
            induction n with
            | zero => intro x4_58; exact Sx.none
            | succ n ih2 =>
              intro x4_58
              rw [lp_X3_why_58.eq_2]
              refine S_iload (dc_X3_why 33 rfl) rfl ?_
              refine S_aload_n (dc_X3_why 34 rfl) rfl ?_
              refine S_getI (dc_X3_why 35 rfl) ho fl_X3_57_2_4 (fun _ _ => rfl) (fun x61 e61 => ?_)
              refine S_icmp_ge 95 (dc_X3_why 36 rfl) rfl (fun c64 => ?_) (fun c64 => ?_)
              · refine Sx.cut [false, false, false, true, false] ?_
                exact hK2
              · refine S_iload (dc_X3_why 37 rfl) rfl ?_
                refine S_iload_n (dc_X3_why 38 rfl) rfl ?_
                refine Sx.regKE0 (pc2 := 89) (L2 := [some (.ref a0), some (.ref a1), some (.int a2), none, some (.int x4_58)]) (st2 := []) (h2 := h) ?_ (fun Q3 hK3 hE3 => ?_)
                · skip
                  refine S_iincN 1 (L' := fun x89 => [some (.ref a0), some (.ref a1), some (.int a2), none, some (.int x89)]) (dc_X3_why 49 rfl) rfl rfl (fun _ => rfl) (fun x89 n89 => ?_)
                  refine S_goto 58 (dc_X3_why 50 rfl) rfl ?_
                  exact ih2 x89
                · have hK3 : Sx K cX3_why 89 [some (.ref a0), some (.ref a1), some (.int a2), none, some (.int x4_58)] [] h (some (.ok ())) Q3 := hK3
                  refine S_icmp_eq 89 (dc_X3_why 39 rfl) rfl (fun c70 => ?_) (fun c70 => ?_)
                  · exact hK3
                  · refine S_aload_n (dc_X3_why 40 rfl) rfl ?_
                    refine S_aload_n (dc_X3_why 41 rfl) rfl ?_
                    refine S_getA (dc_X3_why 42 rfl) ho fl_X3_11_2_0 (fun _ _ => rfl) (fun x75 e75 => ?_)
                    refine S_iload (dc_X3_why 43 rfl) rfl ?_
                    refine S_aaldA4 (dc_X3_why 44 rfl) (fun x80 e80 => ?_)
                    refine S_roI (d := k_d K - 1) (e_callV (b := a1) (As := [.ref x80]) (rest := []) ok_X8_isClear rfl (Nat.le_of_ble_eq_true rfl) (dc_X3_why 45 rfl) ho q826 q827 (show e_cl[6]? = some (RX8, TX8, 4) from rfl) (e_sel.of q828) (e_is_of i38) rfl (Nat.le_of_ble_eq_true rfl)) (by omega) (fun _ e => ct_X8_isClear (by omega) e) (fun x81 e81 => ?_)
                    refine S_if_ne 89 (dc_X3_why 46 rfl) rfl (fun c84 => ?_) (fun c84 => ?_)
                    · exact hK3
                    · refine S_iconst_ 5 (dc_X3_why 47 rfl) rfl ?_
                      refine Sx.err hE3 ?_
                      refine Sx.err hE2 ?_
                      exact S_iret (dc_X3_why 48 rfl) hT rfl (fun q => by cases q; exact hr)
          refine Sx.cut [true, true, true, false, true] ?_
          exact ih2 F 0
      · refine S_iload_n (dc_X3_why 29 rfl) rfl ?_
        exact S_iret (dc_X3_why 30 rfl) hT rfl (fun q => by cases q; exact hr)
  · have hK1 : Sx K cX3_why 37 [some (.ref a0), some (.ref a1), some (.int a2), none, none] [] h (some (.ok ())) Q1 := hK1
    have ih1 : ∀ (n : Nat) (x3_2 : Int32), Sx K cX3_why 2 [some (.ref a0), some (.ref a1), some (.int a2), some (.int x3_2), none] [] h (lp_X3_why_2 F h a0 a1 n x3_2) Q1 := by
      intro n
      induction n with
      | zero => intro x3_2; exact Sx.none
      | succ n ih1 =>
        intro x3_2
        rw [lp_X3_why_2.eq_2]
        refine S_iload_n (dc_X3_why 2 rfl) rfl ?_
        refine S_aload_n (dc_X3_why 3 rfl) rfl ?_
        refine S_getI (dc_X3_why 4 rfl) ho fl_X3_36_6_2 (fun _ _ => rfl) (fun x4 e4 => ?_)
        refine S_icmp_ge 37 (dc_X3_why 5 rfl) rfl (fun c7 => ?_) (fun c7 => ?_)
        · refine Sx.cut [true, true, true, false, true] ?_
          exact hK1
        · refine S_aload_n (dc_X3_why 6 rfl) rfl ?_
          refine S_aload_n (dc_X3_why 7 rfl) rfl ?_
          refine S_getA (dc_X3_why 8 rfl) ho fl_X3_39_6_0 (fun _ _ => rfl) (fun x12 e12 => ?_)
          refine S_iload_n (dc_X3_why 9 rfl) rfl ?_
          refine S_iald (dc_X3_why 10 rfl) (fun x16 e16 => ?_)
          refine S_aload_n (dc_X3_why 11 rfl) rfl ?_
          refine S_getA (dc_X3_why 12 rfl) ho fl_X3_43_6_1 (fun _ _ => rfl) (fun x18 e18 => ?_)
          refine S_iload_n (dc_X3_why 13 rfl) rfl ?_
          refine S_iald (dc_X3_why 14 rfl) (fun x22 e22 => ?_)
          refine Sx.ask (fun _ i23 => ?_)
          refine S_roI (d := k_d K - 1) (e_callV (b := a0) (As := [.int x16, .int x22]) (rest := []) ok_X3_isPeg rfl (Nat.le_of_ble_eq_true rfl) (dc_X3_why 15 rfl) ho q777 q778 (show e_cl[2]? = some (RX3, TX3, 7) from rfl) (e_sel.of q779) (e_is_of i23) rfl (Nat.le_of_ble_eq_true rfl)) (by omega) (fun _ e => ct_X3_isPeg (by omega) e) (fun x23 e23 => ?_)
          refine S_if_ne 31 (dc_X3_why 16 rfl) rfl (fun c26 => ?_) (fun c26 => ?_)
          · refine S_iincN 1 (L' := fun x31 => [some (.ref a0), some (.ref a1), some (.int a2), some (.int x31), none]) (dc_X3_why 19 rfl) rfl rfl (fun _ => rfl) (fun x31 n31 => ?_)
            refine S_goto 2 (dc_X3_why 20 rfl) rfl ?_
            exact ih1 x31
          · refine S_iconst_ 1 (dc_X3_why 17 rfl) rfl ?_
            refine Sx.err hE1 ?_
            exact S_iret (dc_X3_why 18 rfl) hT rfl (fun q => by cases q; exact hr)
    exact ih1 F 0
abbrev cX3_over : ByteArray := prog_4_method_5_code
def yX3_over : MethodName := ⟨"PegBands$Board", "over", "(II)I"⟩
def tb_X3_over : List (Nat × Instr × Nat) := [(0, .iconst 0, 1), (1, .istore_n 3, 1), (2, .iconst 0, 1), (3, .istore 4, 2), (5, .iload 4, 2), (7, .aload_n 0, 1), (8, .getfield 57, 3), (11, .if_icmp .ge 36, 3), (14, .iload_n 3, 1), (15, .aload_n 0, 1), (16, .getfield 11, 3), (19, .iload 4, 2), (21, .aaload, 1), (22, .iconst 2, 1), (23, .iload_n 1, 1), (24, .imul, 1), (25, .iconst 2, 1), (26, .iload_n 2, 1), (27, .imul, 1), (28, .invokevirtual 62, 3), (31, .ifCond .le 7, 3), (34, .iconst 1, 1), (35, .goto 4, 3), (38, .iconst 0, 1), (39, .iadd, 1), (40, .istore_n 3, 1), (41, .iinc 4 1, 3), (44, .goto (-39), 3), (47, .iload_n 3, 1), (48, .ireturn, 1)]
theorem tk_X3_over : ∀ q ∈ tb_X3_over, decode cX3_over q.1 = .ok q.2 := by decide +kernel
theorem dc_X3_over (k : Nat) {pc n : Nat} {i : Instr} (h : tb_X3_over[k]? = some (pc, i, n)) : decode cX3_over pc = .ok (i, n) := tk_X3_over (pc, i, n) (List.mem_of_getElem? h)
abbrev mX3_over : e_M := (yX3_over, cX3_over, 5, some (.int), [])
theorem ok_X3_over : e_mok mX3_over 2 := ⟨q991, q112, by decide +kernel, fun sig h => by cases h; rfl⟩
def lp_X3_over_5 (F : Nat) (h : e_H) (a0 : Nat) (a1 : Int32) (a2 : Int32) : Nat → Int32 → Int32 → Option (Int32)
  | 0, _, _ => none
  | n + 1, x3_5, x4_5 =>
    Option.bind (e_fI h a0 2 4) (fun x8 =>
    if x8 ≤ x4_5 then
      some x3_5
    else
      Option.bind (e_fA h a0 2 0) (fun x16 =>
      Option.bind (e_aA h x16 4 x4_5) (fun x21 =>
      Option.bind (e_is h x21 6) (fun _ =>
      Option.bind (f_X8_place F h x21 (2 * a1) (2 * a2)) (fun x28 =>
      Option.bind (
          if x28 ≤ 0 then
            some 0
          else
            some 1
        : Option (Int32)) (fun s39_2 =>
      Option.bind (some (x3_5 + s39_2)) (fun x40 =>
      Option.bind (some (x4_5 + 1)) (fun x41 =>
      lp_X3_over_5 F h a0 a1 a2 n x40 x41))))))))
def f_X3_over (F : Nat) (h : e_H) (a0 : Nat) (a1 : Int32) (a2 : Int32) : Option Int32 :=
  Option.bind (
      lp_X3_over_5 F h a0 a1 a2 F 0 0
    : Option (Int32)) (fun x3_47_1 =>
  some x3_47_1)
set_option maxHeartbeats 4000000 in
set_option maxRecDepth 100000 in
theorem ct_X3_over {l : Launch} {D : e_D} {B : Heap} {F : Nat} {d : Nat} {h : e_H} {a0 : Nat} {a1 : Int32} {a2 : Int32} {v : Int32} (hd : 4 ≤ d) (e : f_X3_over F h a0 a1 a2 = some v) : e_Run l D B d mX3_over [.ref a0, .int a1, .int a2] h (.ok (some (.int v)), h) := by
  refine e_start [some (.ref a0), some (.int a1), some (.int a2), none, none] (by decide) rfl rfl rfl (Nat.le_of_ble_eq_true rfl) (fun K hl0 hD0 hB0 hM hd0 hr => ?_)
  subst hl0 hD0 hB0 hd0
  have ho : (k_M K).1.cls = "PegBands$Board" := by rw [hM]; rfl
  have hT : (k_M K).2.2.2.1 = some (.int) := by rw [hM]
  refine (show Sx K cX3_over 0 [some (.ref a0), some (.int a1), some (.int a2), none, none] [] h (f_X3_over F h a0 a1 a2) (fun w => w = v) from ?_) _ e rfl
  clear e
  unfold f_X3_over
  refine S_iconst_ 0 (dc_X3_over 0 rfl) rfl ?_
  refine S_istore_n (L' := [some (.ref a0), some (.int a1), some (.int a2), some (.int 0), none]) (dc_X3_over 1 rfl) rfl ?_
  refine S_iconst_ 0 (dc_X3_over 2 rfl) rfl ?_
  refine S_istore (L' := [some (.ref a0), some (.int a1), some (.int a2), some (.int 0), some (.int 0)]) (dc_X3_over 3 rfl) rfl ?_
  refine Sx.regK1 (pc2 := 47) (L2 := fun (x3_47_1 : Int32) => [none, none, none, some (.int x3_47_1), none]) (st2 := fun (x3_47_1 : Int32) => []) (h2 := fun (x3_47_1 : Int32) => h) ?_ (fun Q1 hK1 => ?_)
  · intro x3_47_1
    show Sx K cX3_over 47 [none, none, none, some (.int x3_47_1), none] [] h _ _
    refine S_iload_n (dc_X3_over 28 rfl) rfl ?_
    exact S_iret (dc_X3_over 29 rfl) hT rfl (fun q => by cases q; exact hr)
  · have hK1 : ∀ (x3_47_1 : Int32), Sx K cX3_over 47 [none, none, none, some (.int x3_47_1), none] [] h (some x3_47_1) Q1 := hK1
    have ih1 : ∀ (n : Nat) (x3_5 : Int32) (x4_5 : Int32), Sx K cX3_over 5 [some (.ref a0), some (.int a1), some (.int a2), some (.int x3_5), some (.int x4_5)] [] h (lp_X3_over_5 F h a0 a1 a2 n x3_5 x4_5) Q1 := by
      intro n
      induction n with
      | zero => intro x3_5 x4_5; exact Sx.none
      | succ n ih1 =>
        intro x3_5 x4_5
        rw [lp_X3_over_5.eq_2]
        refine S_iload (dc_X3_over 4 rfl) rfl ?_
        refine S_aload_n (dc_X3_over 5 rfl) rfl ?_
        refine S_getI (dc_X3_over 6 rfl) ho fl_X3_57_2_4 (fun _ _ => rfl) (fun x8 e8 => ?_)
        refine S_icmp_ge 47 (dc_X3_over 7 rfl) rfl (fun c11 => ?_) (fun c11 => ?_)
        · refine Sx.cut [false, false, false, true, false] ?_
          exact hK1 x3_5
        · refine S_iload_n (dc_X3_over 8 rfl) rfl ?_
          refine S_aload_n (dc_X3_over 9 rfl) rfl ?_
          refine S_getA (dc_X3_over 10 rfl) ho fl_X3_11_2_0 (fun _ _ => rfl) (fun x16 e16 => ?_)
          refine S_iload (dc_X3_over 11 rfl) rfl ?_
          refine S_aaldA4 (dc_X3_over 12 rfl) (fun x21 e21 => ?_)
          refine S_iconst_ 2 (dc_X3_over 13 rfl) rfl ?_
          refine S_iload_n (dc_X3_over 14 rfl) rfl ?_
          refine S_imul (dc_X3_over 15 rfl) ?_
          refine S_iconst_ 2 (dc_X3_over 16 rfl) rfl ?_
          refine S_iload_n (dc_X3_over 17 rfl) rfl ?_
          refine S_imul (dc_X3_over 18 rfl) ?_
          refine Sx.ask (fun _ i28 => ?_)
          refine S_roI (d := k_d K - 1) (e_callV (b := x21) (As := [.int (2 * a1), .int (2 * a2)]) (rest := [.int x3_5]) ok_X8_place rfl (Nat.le_of_ble_eq_true rfl) (dc_X3_over 19 rfl) ho q992 q876 (show e_cl[6]? = some (RX8, TX8, 4) from rfl) (e_sel.of q877) (e_is_of i28) rfl (Nat.le_of_ble_eq_true rfl)) (by omega) (fun _ e => ct_X8_place (by omega) e) (fun x28 e28 => ?_)
          refine Sx.regK1 (pc2 := 39) (L2 := fun (s39_2 : Int32) => [some (.ref a0), some (.int a1), some (.int a2), none, some (.int x4_5)]) (st2 := fun (s39_2 : Int32) => [.int s39_2, .int x3_5]) (h2 := fun (s39_2 : Int32) => h) ?_ (fun Q2 hK2 => ?_)
          · intro s39_2
            show Sx K cX3_over 39 [some (.ref a0), some (.int a1), some (.int a2), none, some (.int x4_5)] [.int s39_2, .int x3_5] h _ _
            refine S_iadd (dc_X3_over 24 rfl) ?_
            refine Sx.nameI (fun x40 n40 => ?_)
            refine S_istore_n (L' := [some (.ref a0), some (.int a1), some (.int a2), some (.int x40), some (.int x4_5)]) (dc_X3_over 25 rfl) rfl ?_
            refine S_iincN 1 (L' := fun x41 => [some (.ref a0), some (.int a1), some (.int a2), some (.int x40), some (.int x41)]) (dc_X3_over 26 rfl) rfl rfl (fun _ => rfl) (fun x41 n41 => ?_)
            refine S_goto 5 (dc_X3_over 27 rfl) rfl ?_
            exact ih1 x40 x41
          · have hK2 : ∀ (s39_2 : Int32), Sx K cX3_over 39 [some (.ref a0), some (.int a1), some (.int a2), none, some (.int x4_5)] [.int s39_2, .int x3_5] h (some s39_2) Q2 := hK2
            refine S_if_le 38 (dc_X3_over 20 rfl) rfl (fun c31 => ?_) (fun c31 => ?_)
            · refine S_iconst_ 0 (dc_X3_over 23 rfl) rfl ?_
              refine Sx.cut [true, true, true, false, true] ?_
              exact hK2 0
            · refine S_iconst_ 1 (dc_X3_over 21 rfl) rfl ?_
              refine S_goto 39 (dc_X3_over 22 rfl) rfl ?_
              refine Sx.cut [true, true, true, false, true] ?_
              exact hK2 1
    exact ih1 F 0 0
abbrev cX3_free : ByteArray := prog_4_method_6_code
def yX3_free : MethodName := ⟨"PegBands$Board", "free", "()I"⟩
def tb_X3_free : List (Nat × Instr × Nat) := [(0, .iconst 0, 1), (1, .istore_n 1, 1), (2, .iconst 0, 1), (3, .istore_n 2, 1), (4, .iload_n 2, 1), (5, .aload_n 0, 1), (6, .getfield 29, 3), (9, .if_icmp .ge 51, 3), (12, .iconst 0, 1), (13, .istore_n 3, 1), (14, .iload_n 3, 1), (15, .aload_n 0, 1), (16, .getfield 21, 3), (19, .if_icmp .ge 35, 3), (22, .iload_n 1, 1), (23, .aload_n 0, 1), (24, .iload_n 3, 1), (25, .iload_n 2, 1), (26, .invokevirtual 46, 3), (29, .ifCond .eq 16, 3), (32, .aload_n 0, 1), (33, .iload_n 3, 1), (34, .iload_n 2, 1), (35, .invokevirtual 66, 3), (38, .ifCond .ne 7, 3), (41, .iconst 1, 1), (42, .goto 4, 3), (45, .iconst 0, 1), (46, .iadd, 1), (47, .istore_n 1, 1), (48, .iinc 3 1, 3), (51, .goto (-37), 3), (54, .iinc 2 1, 3), (57, .goto (-53), 3), (60, .iload_n 1, 1), (61, .ireturn, 1)]
theorem tk_X3_free : ∀ q ∈ tb_X3_free, decode cX3_free q.1 = .ok q.2 := by decide +kernel
theorem dc_X3_free (k : Nat) {pc n : Nat} {i : Instr} (h : tb_X3_free[k]? = some (pc, i, n)) : decode cX3_free pc = .ok (i, n) := tk_X3_free (pc, i, n) (List.mem_of_getElem? h)
abbrev mX3_free : e_M := (yX3_free, cX3_free, 4, some (.int), [])
theorem ok_X3_free : e_mok mX3_free 0 := ⟨q987, q112, by decide +kernel, fun sig h => by cases h; rfl⟩
def lp_X3_free_14 (F : Nat) (h : e_H) (a0 : Nat) (x2_4 : Int32) : Nat → Int32 → Int32 → Option (Int32)
  | 0, _, _ => none
  | n + 1, x1_14, x3_14 =>
    Option.bind (e_fI h a0 2 2) (fun x16 =>
    if x16 ≤ x3_14 then
      some x1_14
    else
      Option.bind (f_X3_isPeg h a0 x3_14 x2_4) (fun x26 =>
      Option.bind (
          e_bE (
              if x26 = 0 then
                some (.ok ())
              else
                Option.bind (f_X3_over F h a0 x3_14 x2_4) (fun x35 =>
                if x35 = 0 then
                  some (.error 1)
                else
                  some (.ok ()))
            : Option (Except Int32 Unit)) (fun _ =>
          some 0)
        : Option (Int32)) (fun s46_3 =>
      Option.bind (some (x1_14 + s46_3)) (fun x47 =>
      Option.bind (some (x3_14 + 1)) (fun x48 =>
      lp_X3_free_14 F h a0 x2_4 n x47 x48)))))
def lp_X3_free_4 (F : Nat) (h : e_H) (a0 : Nat) : Nat → Int32 → Int32 → Option (Int32)
  | 0, _, _ => none
  | n + 1, x1_4, x2_4 =>
    Option.bind (e_fI h a0 2 3) (fun x6 =>
    if x6 ≤ x2_4 then
      some x1_4
    else
      Option.bind (
          lp_X3_free_14 F h a0 x2_4 F x1_4 0
        : Option (Int32)) (fun x1_54_2 =>
      Option.bind (some (x2_4 + 1)) (fun x54 =>
      lp_X3_free_4 F h a0 n x1_54_2 x54)))
def f_X3_free (F : Nat) (h : e_H) (a0 : Nat) : Option Int32 :=
  Option.bind (
      lp_X3_free_4 F h a0 F 0 0
    : Option (Int32)) (fun x1_60_1 =>
  some x1_60_1)
set_option maxHeartbeats 4000000 in
set_option maxRecDepth 100000 in
theorem ct_X3_free {l : Launch} {D : e_D} {B : Heap} {F : Nat} {d : Nat} {h : e_H} {a0 : Nat} {v : Int32} (hd : 5 ≤ d) (e : f_X3_free F h a0 = some v) : e_Run l D B d mX3_free [.ref a0] h (.ok (some (.int v)), h) := by
  refine e_start [some (.ref a0), none, none, none] (by decide) rfl rfl rfl (Nat.le_of_ble_eq_true rfl) (fun K hl0 hD0 hB0 hM hd0 hr => ?_)
  subst hl0 hD0 hB0 hd0
  have ho : (k_M K).1.cls = "PegBands$Board" := by rw [hM]; rfl
  have hT : (k_M K).2.2.2.1 = some (.int) := by rw [hM]
  refine (show Sx K cX3_free 0 [some (.ref a0), none, none, none] [] h (f_X3_free F h a0) (fun w => w = v) from ?_) _ e rfl
  clear e
  unfold f_X3_free
  refine S_iconst_ 0 (dc_X3_free 0 rfl) rfl ?_
  refine S_istore_n (L' := [some (.ref a0), some (.int 0), none, none]) (dc_X3_free 1 rfl) rfl ?_
  refine S_iconst_ 0 (dc_X3_free 2 rfl) rfl ?_
  refine S_istore_n (L' := [some (.ref a0), some (.int 0), some (.int 0), none]) (dc_X3_free 3 rfl) rfl ?_
  refine Sx.regK1 (pc2 := 60) (L2 := fun (x1_60_1 : Int32) => [none, some (.int x1_60_1), none, none]) (st2 := fun (x1_60_1 : Int32) => []) (h2 := fun (x1_60_1 : Int32) => h) ?_ (fun Q1 hK1 => ?_)
  · intro x1_60_1
    show Sx K cX3_free 60 [none, some (.int x1_60_1), none, none] [] h _ _
    refine S_iload_n (dc_X3_free 34 rfl) rfl ?_
    exact S_iret (dc_X3_free 35 rfl) hT rfl (fun q => by cases q; exact hr)
  · have hK1 : ∀ (x1_60_1 : Int32), Sx K cX3_free 60 [none, some (.int x1_60_1), none, none] [] h (some x1_60_1) Q1 := hK1
    have ih1 : ∀ (n : Nat) (x1_4 : Int32) (x2_4 : Int32), Sx K cX3_free 4 [some (.ref a0), some (.int x1_4), some (.int x2_4), none] [] h (lp_X3_free_4 F h a0 n x1_4 x2_4) Q1 := by
      intro n
      induction n with
      | zero => intro x1_4 x2_4; exact Sx.none
      | succ n ih1 =>
        intro x1_4 x2_4
        rw [lp_X3_free_4.eq_2]
        refine S_iload_n (dc_X3_free 4 rfl) rfl ?_
        refine S_aload_n (dc_X3_free 5 rfl) rfl ?_
        refine S_getI (dc_X3_free 6 rfl) ho fl_X3_29_2_3 (fun _ _ => rfl) (fun x6 e6 => ?_)
        refine S_icmp_ge 60 (dc_X3_free 7 rfl) rfl (fun c9 => ?_) (fun c9 => ?_)
        · refine Sx.cut [false, true, false, true] ?_
          exact hK1 x1_4
        · refine S_iconst_ 0 (dc_X3_free 8 rfl) rfl ?_
          refine S_istore_n (L' := [some (.ref a0), some (.int x1_4), some (.int x2_4), some (.int 0)]) (dc_X3_free 9 rfl) rfl ?_
          refine Sx.regK1 (pc2 := 54) (L2 := fun (x1_54_2 : Int32) => [some (.ref a0), some (.int x1_54_2), some (.int x2_4), none]) (st2 := fun (x1_54_2 : Int32) => []) (h2 := fun (x1_54_2 : Int32) => h) ?_ (fun Q2 hK2 => ?_)
          · intro x1_54_2
            show Sx K cX3_free 54 [some (.ref a0), some (.int x1_54_2), some (.int x2_4), none] [] h _ _
            refine S_iincN 1 (L' := fun x54 => [some (.ref a0), some (.int x1_54_2), some (.int x54), none]) (dc_X3_free 32 rfl) rfl rfl (fun _ => rfl) (fun x54 n54 => ?_)
            refine S_goto 4 (dc_X3_free 33 rfl) rfl ?_
            exact ih1 x1_54_2 x54
          · have hK2 : ∀ (x1_54_2 : Int32), Sx K cX3_free 54 [some (.ref a0), some (.int x1_54_2), some (.int x2_4), none] [] h (some x1_54_2) Q2 := hK2
            have ih2 : ∀ (n : Nat) (x1_14 : Int32) (x3_14 : Int32), Sx K cX3_free 14 [some (.ref a0), some (.int x1_14), some (.int x2_4), some (.int x3_14)] [] h (lp_X3_free_14 F h a0 x2_4 n x1_14 x3_14) Q2 := by
              intro n
              induction n with
              | zero => intro x1_14 x3_14; exact Sx.none
              | succ n ih2 =>
                intro x1_14 x3_14
                rw [lp_X3_free_14.eq_2]
                refine S_iload_n (dc_X3_free 10 rfl) rfl ?_
                refine S_aload_n (dc_X3_free 11 rfl) rfl ?_
                refine S_getI (dc_X3_free 12 rfl) ho fl_X3_21_2_2 (fun _ _ => rfl) (fun x16 e16 => ?_)
                refine S_icmp_ge 54 (dc_X3_free 13 rfl) rfl (fun c19 => ?_) (fun c19 => ?_)
                · refine Sx.cut [true, true, true, false] ?_
                  exact hK2 x1_14
                · refine S_iload_n (dc_X3_free 14 rfl) rfl ?_
                  refine S_aload_n (dc_X3_free 15 rfl) rfl ?_
                  refine S_iload_n (dc_X3_free 16 rfl) rfl ?_
                  refine S_iload_n (dc_X3_free 17 rfl) rfl ?_
                  refine S_roI (d := k_d K - 1) (e_callV (b := a0) (As := [.int x3_14, .int x2_4]) (rest := [.int x1_14]) ok_X3_isPeg rfl (Nat.le_of_ble_eq_true rfl) (dc_X3_free 18 rfl) ho q777 q778 (show e_cl[2]? = some (RX3, TX3, 7) from rfl) (e_sel.of q779) (e_fI_of e6).1 rfl (Nat.le_of_ble_eq_true rfl)) (by omega) (fun _ e => ct_X3_isPeg (by omega) e) (fun x26 e26 => ?_)
                  refine Sx.regK1 (pc2 := 46) (L2 := fun (s46_3 : Int32) => [some (.ref a0), none, some (.int x2_4), some (.int x3_14)]) (st2 := fun (s46_3 : Int32) => [.int s46_3, .int x1_14]) (h2 := fun (s46_3 : Int32) => h) ?_ (fun Q3 hK3 => ?_)
                  · intro s46_3
                    show Sx K cX3_free 46 [some (.ref a0), none, some (.int x2_4), some (.int x3_14)] [.int s46_3, .int x1_14] h _ _
                    refine S_iadd (dc_X3_free 28 rfl) ?_
                    refine Sx.nameI (fun x47 n47 => ?_)
                    refine S_istore_n (L' := [some (.ref a0), some (.int x47), some (.int x2_4), some (.int x3_14)]) (dc_X3_free 29 rfl) rfl ?_
                    refine S_iincN 1 (L' := fun x48 => [some (.ref a0), some (.int x47), some (.int x2_4), some (.int x48)]) (dc_X3_free 30 rfl) rfl rfl (fun _ => rfl) (fun x48 n48 => ?_)
                    refine S_goto 14 (dc_X3_free 31 rfl) rfl ?_
                    exact ih2 x47 x48
                  · have hK3 : ∀ (s46_3 : Int32), Sx K cX3_free 46 [some (.ref a0), none, some (.int x2_4), some (.int x3_14)] [.int s46_3, .int x1_14] h (some s46_3) Q3 := hK3
                    refine Sx.regKE0 (pc2 := 45) (L2 := [some (.ref a0), none, some (.int x2_4), some (.int x3_14)]) (st2 := [.int x1_14]) (h2 := h) ?_ (fun Q4 hK4 hE4 => ?_)
                    · skip
                      refine S_iconst_ 0 (dc_X3_free 27 rfl) rfl ?_
                      exact hK3 0
                    · have hK4 : Sx K cX3_free 45 [some (.ref a0), none, some (.int x2_4), some (.int x3_14)] [.int x1_14] h (some (.ok ())) Q4 := hK4
                      refine S_if_eq 45 (dc_X3_free 19 rfl) rfl (fun c29 => ?_) (fun c29 => ?_)
                      · refine Sx.cut [true, false, true, true] ?_
                        exact hK4
                      · refine S_aload_n (dc_X3_free 20 rfl) rfl ?_
                        refine S_iload_n (dc_X3_free 21 rfl) rfl ?_
                        refine S_iload_n (dc_X3_free 22 rfl) rfl ?_
                        refine S_roI (d := k_d K - 1) (e_callV (b := a0) (As := [.int x3_14, .int x2_4]) (rest := [.int x1_14]) ok_X3_over rfl (Nat.le_of_ble_eq_true rfl) (dc_X3_free 23 rfl) ho q988 q989 (show e_cl[2]? = some (RX3, TX3, 7) from rfl) (e_sel.of q990) (e_fI_of e6).1 rfl (Nat.le_of_ble_eq_true rfl)) (by omega) (fun _ e => ct_X3_over (by omega) e) (fun x35 e35 => ?_)
                        refine S_if_ne 45 (dc_X3_free 24 rfl) rfl (fun c38 => ?_) (fun c38 => ?_)
                        · refine Sx.cut [true, false, true, true] ?_
                          exact hK4
                        · refine S_iconst_ 1 (dc_X3_free 25 rfl) rfl ?_
                          refine S_goto 46 (dc_X3_free 26 rfl) rfl ?_
                          refine Sx.cut [true, false, true, true] ?_
                          refine Sx.err hE4 ?_
                          exact hK3 1
            exact ih2 F x1_4 0
    exact ih1 F 0 0
abbrev cX3_pegs : ByteArray := prog_4_method_7_code
def yX3_pegs : MethodName := ⟨"PegBands$Board", "pegs", "()I"⟩
def tb_X3_pegs : List (Nat × Instr × Nat) := [(0, .aload_n 0, 1), (1, .getfield 21, 3), (4, .aload_n 0, 1), (5, .getfield 29, 3), (8, .imul, 1), (9, .aload_n 0, 1), (10, .getfield 69, 3), (13, .isub, 1), (14, .ireturn, 1)]
theorem tk_X3_pegs : ∀ q ∈ tb_X3_pegs, decode cX3_pegs q.1 = .ok q.2 := by decide +kernel
theorem dc_X3_pegs (k : Nat) {pc n : Nat} {i : Instr} (h : tb_X3_pegs[k]? = some (pc, i, n)) : decode cX3_pegs pc = .ok (i, n) := tk_X3_pegs (pc, i, n) (List.mem_of_getElem? h)
abbrev mX3_pegs : e_M := (yX3_pegs, cX3_pegs, 1, some (.int), [])
theorem ok_X3_pegs : e_mok mX3_pegs 0 := ⟨q1192, q112, by decide +kernel, fun sig h => by cases h; rfl⟩
theorem fl_X3_69_2_5 : e_FL "PegBands$Board" 69 2 5 := ⟨_, rfl, by decide, Or.inl q262⟩
def f_X3_pegs (h : e_H) (a0 : Nat) : Option Int32 :=
  Option.bind (e_fI h a0 2 2) (fun x1 =>
  Option.bind (e_fI h a0 2 3) (fun x5 =>
  Option.bind (e_fI h a0 2 5) (fun x10 =>
  some ((x1 * x5) - x10))))
set_option maxHeartbeats 4000000 in
set_option maxRecDepth 100000 in
theorem ct_X3_pegs {l : Launch} {D : e_D} {B : Heap} {d : Nat} {h : e_H} {a0 : Nat} {v : Int32} (hd : 1 ≤ d) (e : f_X3_pegs h a0 = some v) : e_Run l D B d mX3_pegs [.ref a0] h (.ok (some (.int v)), h) := by
  refine e_start [some (.ref a0)] (by decide) rfl rfl rfl (Nat.le_of_ble_eq_true rfl) (fun K hl0 hD0 hB0 hM hd0 hr => ?_)
  subst hl0 hD0 hB0 hd0
  have ho : (k_M K).1.cls = "PegBands$Board" := by rw [hM]; rfl
  have hT : (k_M K).2.2.2.1 = some (.int) := by rw [hM]
  refine (show Sx K cX3_pegs 0 [some (.ref a0)] [] h (f_X3_pegs h a0) (fun w => w = v) from ?_) _ e rfl
  clear e
  unfold f_X3_pegs
  refine S_aload_n (dc_X3_pegs 0 rfl) rfl ?_
  refine S_getI (dc_X3_pegs 1 rfl) ho fl_X3_21_2_2 (fun _ _ => rfl) (fun x1 e1 => ?_)
  refine S_aload_n (dc_X3_pegs 2 rfl) rfl ?_
  refine S_getI (dc_X3_pegs 3 rfl) ho fl_X3_29_2_3 (fun _ _ => rfl) (fun x5 e5 => ?_)
  refine S_imul (dc_X3_pegs 4 rfl) ?_
  refine S_aload_n (dc_X3_pegs 5 rfl) rfl ?_
  refine S_getI (dc_X3_pegs 6 rfl) ho fl_X3_69_2_5 (fun _ _ => rfl) (fun x10 e10 => ?_)
  refine S_isub (dc_X3_pegs 7 rfl) ?_
  exact S_iret (dc_X3_pegs 8 rfl) hT rfl (fun q => by cases q; exact hr)
abbrev cX13_init : ByteArray := prog_10_method_1_code
def yX13_init : MethodName := ⟨"PegBands$Counts", "<init>", "(III)V"⟩
def tb_X13_init : List (Nat × Instr × Nat) := [(0, .aload_n 0, 1), (1, .invokespecial 1, 3), (4, .aload_n 0, 1), (5, .iload_n 1, 1), (6, .putfield 7, 3), (9, .aload_n 0, 1), (10, .iload_n 2, 1), (11, .putfield 13, 3), (14, .aload_n 0, 1), (15, .iload_n 3, 1), (16, .putfield 16, 3), (19, .return_, 1)]
theorem tk_X13_init : ∀ q ∈ tb_X13_init, decode cX13_init q.1 = .ok q.2 := by decide +kernel
theorem dc_X13_init (k : Nat) {pc n : Nat} {i : Instr} (h : tb_X13_init[k]? = some (pc, i, n)) : decode cX13_init pc = .ok (i, n) := tk_X13_init (pc, i, n) (List.mem_of_getElem? h)
abbrev mX13_init : e_M := (yX13_init, cX13_init, 4, none, [])
theorem ok_X13_init : e_mok mX13_init 3 := ⟨q1280, q130, by decide +kernel, fun sig h => by cases h; rfl⟩
theorem fl_X13_7_10_0 : e_FL "PegBands$Counts" 7 10 0 := ⟨_, rfl, by decide, Or.inl q1282⟩
theorem fl_X13_13_10_1 : e_FL "PegBands$Counts" 13 10 1 := ⟨_, rfl, by decide, Or.inl q1283⟩
theorem fl_X13_16_10_2 : e_FL "PegBands$Counts" 16 10 2 := ⟨_, rfl, by decide, Or.inl q1284⟩
def f_X13_init (h : e_H) (a0 : Nat) (a1 : Int32) (a2 : Int32) (a3 : Int32) : Option e_H :=
  Option.bind (f_X11_init h a0) (fun h1 =>
  Option.bind (e_gI h1 a0 10 0 a1) (fun h6 =>
  Option.bind (e_gI h6 a0 10 1 a2) (fun h11 =>
  Option.bind (e_gI h11 a0 10 2 a3) (fun h16 =>
  some h16))))
set_option maxHeartbeats 4000000 in
set_option maxRecDepth 100000 in
theorem ct_X13_init {l : Launch} {D : e_D} {B : Heap} {d : Nat} {h : e_H} {a0 : Nat} {a1 : Int32} {a2 : Int32} {a3 : Int32} {h1 : e_H} (hd : 2 ≤ d) (e : f_X13_init h a0 a1 a2 a3 = some h1) : e_Run l D B d mX13_init [.ref a0, .int a1, .int a2, .int a3] h (.ok none, h1) := by
  refine e_start [some (.ref a0), some (.int a1), some (.int a2), some (.int a3)] (by decide) rfl rfl rfl (Nat.le_of_ble_eq_true rfl) (fun K hl0 hD0 hB0 hM hd0 hr => ?_)
  subst hl0 hD0 hB0 hd0
  have ho : (k_M K).1.cls = "PegBands$Counts" := by rw [hM]; rfl
  have hT : (k_M K).2.2.2.1 = none := by rw [hM]
  refine (show Sx K cX13_init 0 [some (.ref a0), some (.int a1), some (.int a2), some (.int a3)] [] h (f_X13_init h a0 a1 a2 a3) (fun w => w = h1) from ?_) _ e rfl
  clear e
  unfold f_X13_init
  refine S_aload_n (dc_X13_init 0 rfl) rfl ?_
  refine S_rwV (d := k_d K - 1) (e_callIN (b := a0) (As := []) (rest := []) ok_X11_init rfl rfl rfl (Nat.le_of_ble_eq_true rfl) (dc_X13_init 1 rfl) ho q1281 q1266 rfl (Nat.le_of_ble_eq_true rfl)) (by omega) (fun _ e => ct_X11_init (by omega) e) (fun h1 e1 => ?_)
  refine S_aload_n (dc_X13_init 2 rfl) rfl ?_
  refine S_iload_n (dc_X13_init 3 rfl) rfl ?_
  refine S_putI (dc_X13_init 4 rfl) ho fl_X13_7_10_0 (fun _ _ => rfl) (Or.inr ⟨rfl, by rw [hM]; rfl, rfl⟩) rfl rfl (fun h6 e6 => ?_)
  refine S_aload_n (dc_X13_init 5 rfl) rfl ?_
  refine S_iload_n (dc_X13_init 6 rfl) rfl ?_
  refine S_putI (dc_X13_init 7 rfl) ho fl_X13_13_10_1 (fun _ _ => rfl) (Or.inr ⟨rfl, by rw [hM]; rfl, rfl⟩) rfl rfl (fun h11 e11 => ?_)
  refine S_aload_n (dc_X13_init 8 rfl) rfl ?_
  refine S_iload_n (dc_X13_init 9 rfl) rfl ?_
  refine S_putI (dc_X13_init 10 rfl) ho fl_X13_16_10_2 (fun _ _ => rfl) (Or.inr ⟨rfl, by rw [hM]; rfl, rfl⟩) rfl rfl (fun h16 e16 => ?_)
  exact S_vret (dc_X13_init 11 rfl) hT (fun q => by cases q; exact hr)
abbrev cX8_area : ByteArray := prog_3_method_8_code
def yX8_area : MethodName := ⟨"PegBands$Band", "area", "()I"⟩
def tb_X8_area : List (Nat × Instr × Nat) := [(0, .iconst 0, 1), (1, .istore_n 1, 1), (2, .iconst 0, 1), (3, .istore_n 2, 1), (4, .iload_n 2, 1), (5, .aload_n 0, 1), (6, .getfield 28, 3), (9, .if_icmp .ge 47, 3), (12, .iload_n 1, 1), (13, .aload_n 0, 1), (14, .getfield 9, 3), (17, .iload_n 2, 1), (18, .iaload, 1), (19, .aload_n 0, 1), (20, .getfield 15, 3), (23, .aload_n 0, 1), (24, .iload_n 2, 1), (25, .invokevirtual 40, 3), (28, .iaload, 1), (29, .imul, 1), (30, .aload_n 0, 1), (31, .getfield 9, 3), (34, .aload_n 0, 1), (35, .iload_n 2, 1), (36, .invokevirtual 40, 3), (39, .iaload, 1), (40, .aload_n 0, 1), (41, .getfield 15, 3), (44, .iload_n 2, 1), (45, .iaload, 1), (46, .imul, 1), (47, .isub, 1), (48, .iadd, 1), (49, .istore_n 1, 1), (50, .iinc 2 1, 3), (53, .goto (-49), 3), (56, .iload_n 1, 1), (57, .ireturn, 1)]
theorem tk_X8_area : ∀ q ∈ tb_X8_area, decode cX8_area q.1 = .ok q.2 := by decide +kernel
theorem dc_X8_area (k : Nat) {pc n : Nat} {i : Instr} (h : tb_X8_area[k]? = some (pc, i, n)) : decode cX8_area pc = .ok (i, n) := tk_X8_area (pc, i, n) (List.mem_of_getElem? h)
abbrev mX8_area : e_M := (yX8_area, cX8_area, 3, some (.int), [])
theorem ok_X8_area : e_mok mX8_area 0 := ⟨q1121, q117, by decide +kernel, fun sig h => by cases h; rfl⟩
def lp_X8_area_4 (F : Nat) (h : e_H) (a0 : Nat) : Nat → Int32 → Int32 → Option (Int32)
  | 0, _, _ => none
  | n + 1, x1_4, x2_4 =>
    Option.bind (e_fI h a0 6 2) (fun x6 =>
    if x6 ≤ x2_4 then
      some x1_4
    else
      Option.bind (e_fA h a0 6 0) (fun x14 =>
      Option.bind (e_aI h x14 0 x2_4) (fun x18 =>
      Option.bind (e_fA h a0 6 1) (fun x20 =>
      Option.bind (f_X8_next h a0 x2_4) (fun x25 =>
      Option.bind (e_aI h x20 0 x25) (fun x28 =>
      Option.bind (e_fA h a0 6 0) (fun x31 =>
      Option.bind (f_X8_next h a0 x2_4) (fun x36 =>
      Option.bind (e_aI h x31 0 x36) (fun x39 =>
      Option.bind (e_fA h a0 6 1) (fun x41 =>
      Option.bind (e_aI h x41 0 x2_4) (fun x45 =>
      Option.bind (some (x1_4 + ((x18 * x28) - (x39 * x45)))) (fun x49 =>
      Option.bind (some (x2_4 + 1)) (fun x50 =>
      lp_X8_area_4 F h a0 n x49 x50)))))))))))))
def f_X8_area (F : Nat) (h : e_H) (a0 : Nat) : Option Int32 :=
  Option.bind (
      lp_X8_area_4 F h a0 F 0 0
    : Option (Int32)) (fun x1_56_1 =>
  some x1_56_1)
set_option maxHeartbeats 4000000 in
set_option maxRecDepth 100000 in
theorem ct_X8_area {l : Launch} {D : e_D} {B : Heap} {F : Nat} {d : Nat} {h : e_H} {a0 : Nat} {v : Int32} (hd : 2 ≤ d) (e : f_X8_area F h a0 = some v) : e_Run l D B d mX8_area [.ref a0] h (.ok (some (.int v)), h) := by
  refine e_start [some (.ref a0), none, none] (by decide) rfl rfl rfl (Nat.le_of_ble_eq_true rfl) (fun K hl0 hD0 hB0 hM hd0 hr => ?_)
  subst hl0 hD0 hB0 hd0
  have ho : (k_M K).1.cls = "PegBands$Band" := by rw [hM]; rfl
  have hT : (k_M K).2.2.2.1 = some (.int) := by rw [hM]
  refine (show Sx K cX8_area 0 [some (.ref a0), none, none] [] h (f_X8_area F h a0) (fun w => w = v) from ?_) _ e rfl
  clear e
  unfold f_X8_area
  refine S_iconst_ 0 (dc_X8_area 0 rfl) rfl ?_
  refine S_istore_n (L' := [some (.ref a0), some (.int 0), none]) (dc_X8_area 1 rfl) rfl ?_
  refine S_iconst_ 0 (dc_X8_area 2 rfl) rfl ?_
  refine S_istore_n (L' := [some (.ref a0), some (.int 0), some (.int 0)]) (dc_X8_area 3 rfl) rfl ?_
  refine Sx.regK1 (pc2 := 56) (L2 := fun (x1_56_1 : Int32) => [none, some (.int x1_56_1), none]) (st2 := fun (x1_56_1 : Int32) => []) (h2 := fun (x1_56_1 : Int32) => h) ?_ (fun Q1 hK1 => ?_)
  · intro x1_56_1
    show Sx K cX8_area 56 [none, some (.int x1_56_1), none] [] h _ _
    refine S_iload_n (dc_X8_area 36 rfl) rfl ?_
    exact S_iret (dc_X8_area 37 rfl) hT rfl (fun q => by cases q; exact hr)
  · have hK1 : ∀ (x1_56_1 : Int32), Sx K cX8_area 56 [none, some (.int x1_56_1), none] [] h (some x1_56_1) Q1 := hK1
    have ih1 : ∀ (n : Nat) (x1_4 : Int32) (x2_4 : Int32), Sx K cX8_area 4 [some (.ref a0), some (.int x1_4), some (.int x2_4)] [] h (lp_X8_area_4 F h a0 n x1_4 x2_4) Q1 := by
      intro n
      induction n with
      | zero => intro x1_4 x2_4; exact Sx.none
      | succ n ih1 =>
        intro x1_4 x2_4
        rw [lp_X8_area_4.eq_2]
        refine S_iload_n (dc_X8_area 4 rfl) rfl ?_
        refine S_aload_n (dc_X8_area 5 rfl) rfl ?_
        refine S_getI (dc_X8_area 6 rfl) ho fl_X8_28_6_2 (fun _ _ => rfl) (fun x6 e6 => ?_)
        refine S_icmp_ge 56 (dc_X8_area 7 rfl) rfl (fun c9 => ?_) (fun c9 => ?_)
        · refine Sx.cut [false, true, false] ?_
          exact hK1 x1_4
        · refine S_iload_n (dc_X8_area 8 rfl) rfl ?_
          refine S_aload_n (dc_X8_area 9 rfl) rfl ?_
          refine S_getA (dc_X8_area 10 rfl) ho fl_X8_9_6_0 (fun _ _ => rfl) (fun x14 e14 => ?_)
          refine S_iload_n (dc_X8_area 11 rfl) rfl ?_
          refine S_iald (dc_X8_area 12 rfl) (fun x18 e18 => ?_)
          refine S_aload_n (dc_X8_area 13 rfl) rfl ?_
          refine S_getA (dc_X8_area 14 rfl) ho fl_X8_15_6_1 (fun _ _ => rfl) (fun x20 e20 => ?_)
          refine S_aload_n (dc_X8_area 15 rfl) rfl ?_
          refine S_iload_n (dc_X8_area 16 rfl) rfl ?_
          refine S_roI (d := k_d K - 1) (e_callV (b := a0) (As := [.int x2_4]) (rest := [.ref x20, .int x18, .int x1_4]) ok_X8_next rfl (Nat.le_of_ble_eq_true rfl) (dc_X8_area 17 rfl) ho q798 q799 (show e_cl[6]? = some (RX8, TX8, 4) from rfl) (e_sel.of q800) (e_fI_of e6).1 rfl (Nat.le_of_ble_eq_true rfl)) (by omega) (fun _ e => ct_X8_next (by omega) e) (fun x25 e25 => ?_)
          refine S_iald (dc_X8_area 18 rfl) (fun x28 e28 => ?_)
          refine S_imul (dc_X8_area 19 rfl) ?_
          refine S_aload_n (dc_X8_area 20 rfl) rfl ?_
          refine S_getA (dc_X8_area 21 rfl) ho fl_X8_9_6_0 (fun _ _ => rfl) (fun x31 e31 => ?_)
          refine S_aload_n (dc_X8_area 22 rfl) rfl ?_
          refine S_iload_n (dc_X8_area 23 rfl) rfl ?_
          refine S_roI (d := k_d K - 1) (e_callV (b := a0) (As := [.int x2_4]) (rest := [.ref x31, .int (x18 * x28), .int x1_4]) ok_X8_next rfl (Nat.le_of_ble_eq_true rfl) (dc_X8_area 24 rfl) ho q798 q799 (show e_cl[6]? = some (RX8, TX8, 4) from rfl) (e_sel.of q800) (e_fI_of e6).1 rfl (Nat.le_of_ble_eq_true rfl)) (by omega) (fun _ e => ct_X8_next (by omega) e) (fun x36 e36 => ?_)
          refine S_iald (dc_X8_area 25 rfl) (fun x39 e39 => ?_)
          refine S_aload_n (dc_X8_area 26 rfl) rfl ?_
          refine S_getA (dc_X8_area 27 rfl) ho fl_X8_15_6_1 (fun _ _ => rfl) (fun x41 e41 => ?_)
          refine S_iload_n (dc_X8_area 28 rfl) rfl ?_
          refine S_iald (dc_X8_area 29 rfl) (fun x45 e45 => ?_)
          refine S_imul (dc_X8_area 30 rfl) ?_
          refine S_isub (dc_X8_area 31 rfl) ?_
          refine S_iadd (dc_X8_area 32 rfl) ?_
          refine Sx.nameI (fun x49 n49 => ?_)
          refine S_istore_n (L' := [some (.ref a0), some (.int x49), some (.int x2_4)]) (dc_X8_area 33 rfl) rfl ?_
          refine S_iincN 1 (L' := fun x50 => [some (.ref a0), some (.int x49), some (.int x50)]) (dc_X8_area 34 rfl) rfl rfl (fun _ => rfl) (fun x50 n50 => ?_)
          refine S_goto 4 (dc_X8_area 35 rfl) rfl ?_
          exact ih1 x49 x50
    exact ih1 F 0 0
abbrev cX1_common : ByteArray := prog_1_method_8_code
def yX1_common : MethodName := ⟨"PegBands", "common", "(II)I"⟩
def tb_X1_common : List (Nat × Instr × Nat) := [(0, .iload_n 1, 1), (1, .ifCond .ne 10, 3), (4, .iload_n 0, 1), (5, .invokestatic 167, 3), (8, .goto 10, 3), (11, .iload_n 1, 1), (12, .iload_n 0, 1), (13, .iload_n 1, 1), (14, .irem, 1), (15, .invokestatic 173, 3), (18, .ireturn, 1)]
theorem tk_X1_common : ∀ q ∈ tb_X1_common, decode cX1_common q.1 = .ok q.2 := by decide +kernel
theorem dc_X1_common (k : Nat) {pc n : Nat} {i : Instr} (h : tb_X1_common[k]? = some (pc, i, n)) : decode cX1_common pc = .ok (i, n) := tk_X1_common (pc, i, n) (List.mem_of_getElem? h)
abbrev mX1_common : e_M := (yX1_common, cX1_common, 2, some (.int), [])
theorem ok_X1_common : e_mok mX1_common 2 := ⟨q1128, q108, by decide +kernel, fun sig h => by cases h; rfl⟩
def fb_X1_common (F : Nat) (S : Int32 → Int32 → Option Int32) (a0 : Int32) (a1 : Int32) : Option Int32 :=
  if a1 = 0 then
    some (if 0 ≤ a0 then a0 else 0 - a0)
  else
    if a1 = 0 then none else
    Option.bind (S a1 (a0 - a0 / a1 * a1)) (fun x15 =>
    some x15)
set_option maxHeartbeats 4000000 in
set_option maxRecDepth 100000 in
theorem cb_X1_common {l : Launch} {D : e_D} {B : Heap} {F : Nat} {S : Int32 → Int32 → Option Int32} {dS : Nat} {d : Nat} {h : e_H} {a0 : Int32} {a1 : Int32} {v : Int32} (hS : ∀ {h : e_H} {a0 : Int32} {a1 : Int32} {v : Int32} , S a0 a1 = some v → e_Run l D B dS mX1_common [.int a0, .int a1] h (.ok (some (.int v)), h)) (hd : 2 ≤ d) (hd2 : dS + 1 ≤ d) (e : fb_X1_common F S a0 a1 = some v) : e_Run l D B d mX1_common [.int a0, .int a1] h (.ok (some (.int v)), h) := by
  refine e_start [some (.int a0), some (.int a1)] (by decide) rfl rfl rfl (Nat.le_of_ble_eq_true rfl) (fun K hl0 hD0 hB0 hM hd0 hr => ?_)
  subst hl0 hD0 hB0 hd0
  have ho : (k_M K).1.cls = "PegBands" := by rw [hM]; rfl
  have hT : (k_M K).2.2.2.1 = some (.int) := by rw [hM]
  refine (show Sx K cX1_common 0 [some (.int a0), some (.int a1)] [] h (fb_X1_common F S a0 a1) (fun w => w = v) from ?_) _ e rfl
  clear e
  unfold fb_X1_common
  refine S_iload_n (dc_X1_common 0 rfl) rfl ?_
  refine S_if_ne 11 (dc_X1_common 1 rfl) rfl (fun c1 => ?_) (fun c1 => ?_)
  · refine S_iload_n (dc_X1_common 5 rfl) rfl ?_
    refine S_iload_n (dc_X1_common 6 rfl) rfl ?_
    refine S_iload_n (dc_X1_common 7 rfl) rfl ?_
    refine Sx.ncond (fun c14 => ?_)
    refine S_irem (dc_X1_common 8 rfl) c14 ?_
    refine S_roI (d := dS) (e_callS (As := [.int a1, .int (a0 - a0 / a1 * a1)]) (rest := []) ok_X1_common rfl (Nat.le_of_ble_eq_true rfl) (dc_X1_common 9 rfl) ho q1129 q1127 rfl (Nat.le_of_ble_eq_true rfl)) (by omega) (fun _ e => hS e) (fun x15 e15 => ?_)
    exact S_iret (dc_X1_common 10 rfl) hT rfl (fun q => by cases q; exact hr)
  · refine S_iload_n (dc_X1_common 2 rfl) rfl ?_
    refine S_mabs (dc_X1_common 3 rfl) ho q1089 (by omega) (Nat.le_of_ble_eq_true rfl) ?_
    refine S_goto 18 (dc_X1_common 4 rfl) rfl ?_
    exact S_iret (dc_X1_common 10 rfl) hT rfl (fun q => by cases q; exact hr)
def f_X1_common (F : Nat) : Nat → Int32 → Int32 → Option Int32
  | 0, _, _ => none
  | n + 1, a0, a1 => fb_X1_common F (f_X1_common F n) a0 a1
theorem ct_X1_common {l : Launch} {D : e_D} {B : Heap} {F : Nat} (n : Nat) : ∀ {d : Nat} {h : e_H} {a0 : Int32} {a1 : Int32} {v : Int32} (hd : 8 * n + 20 ≤ d) (e : f_X1_common F n a0 a1 = some v), e_Run l D B d mX1_common [.int a0, .int a1] h (.ok (some (.int v)), h) := by
  induction n with
  | zero => intros; rename_i e; cases e
  | succ n ih => intros; rename_i hd e; exact cb_X1_common (dS := 8 * n + 20) (fun e => ih (Nat.le_refl _) e) (by omega) (by omega) e
abbrev cX8_on : ByteArray := prog_3_method_9_code
def yX8_on : MethodName := ⟨"PegBands$Band", "on", "()I"⟩
def tb_X8_on : List (Nat × Instr × Nat) := [(0, .iconst 0, 1), (1, .istore_n 1, 1), (2, .iconst 0, 1), (3, .istore_n 2, 1), (4, .iload_n 2, 1), (5, .aload_n 0, 1), (6, .getfield 28, 3), (9, .if_icmp .ge 49, 3), (12, .iload_n 1, 1), (13, .aload_n 0, 1), (14, .getfield 9, 3), (17, .aload_n 0, 1), (18, .iload_n 2, 1), (19, .invokevirtual 40, 3), (22, .iaload, 1), (23, .aload_n 0, 1), (24, .getfield 9, 3), (27, .iload_n 2, 1), (28, .iaload, 1), (29, .isub, 1), (30, .aload_n 0, 1), (31, .getfield 15, 3), (34, .aload_n 0, 1), (35, .iload_n 2, 1), (36, .invokevirtual 40, 3), (39, .iaload, 1), (40, .aload_n 0, 1), (41, .getfield 15, 3), (44, .iload_n 2, 1), (45, .iaload, 1), (46, .isub, 1), (47, .invokestatic 47, 3), (50, .iadd, 1), (51, .istore_n 1, 1), (52, .iinc 2 1, 3), (55, .goto (-51), 3), (58, .iload_n 1, 1), (59, .ireturn, 1)]
theorem tk_X8_on : ∀ q ∈ tb_X8_on, decode cX8_on q.1 = .ok q.2 := by decide +kernel
theorem dc_X8_on (k : Nat) {pc n : Nat} {i : Instr} (h : tb_X8_on[k]? = some (pc, i, n)) : decode cX8_on pc = .ok (i, n) := tk_X8_on (pc, i, n) (List.mem_of_getElem? h)
abbrev mX8_on : e_M := (yX8_on, cX8_on, 3, some (.int), [])
theorem ok_X8_on : e_mok mX8_on 0 := ⟨q1125, q117, by decide +kernel, fun sig h => by cases h; rfl⟩
def lp_X8_on_4 (F : Nat) (h : e_H) (a0 : Nat) : Nat → Int32 → Int32 → Option (Int32)
  | 0, _, _ => none
  | n + 1, x1_4, x2_4 =>
    Option.bind (e_fI h a0 6 2) (fun x6 =>
    if x6 ≤ x2_4 then
      some x1_4
    else
      Option.bind (e_fA h a0 6 0) (fun x14 =>
      Option.bind (f_X8_next h a0 x2_4) (fun x19 =>
      Option.bind (e_aI h x14 0 x19) (fun x22 =>
      Option.bind (e_fA h a0 6 0) (fun x24 =>
      Option.bind (e_aI h x24 0 x2_4) (fun x28 =>
      Option.bind (e_fA h a0 6 1) (fun x31 =>
      Option.bind (f_X8_next h a0 x2_4) (fun x36 =>
      Option.bind (e_aI h x31 0 x36) (fun x39 =>
      Option.bind (e_fA h a0 6 1) (fun x41 =>
      Option.bind (e_aI h x41 0 x2_4) (fun x45 =>
      Option.bind (f_X1_common F 32 (x22 - x28) (x39 - x45)) (fun x47 =>
      Option.bind (some (x1_4 + x47)) (fun x51 =>
      Option.bind (some (x2_4 + 1)) (fun x52 =>
      lp_X8_on_4 F h a0 n x51 x52))))))))))))))
def f_X8_on (F : Nat) (h : e_H) (a0 : Nat) : Option Int32 :=
  Option.bind (
      lp_X8_on_4 F h a0 F 0 0
    : Option (Int32)) (fun x1_58_1 =>
  some x1_58_1)
set_option maxHeartbeats 4000000 in
set_option maxRecDepth 100000 in
theorem ct_X8_on {l : Launch} {D : e_D} {B : Heap} {F : Nat} {d : Nat} {h : e_H} {a0 : Nat} {v : Int32} (hd : 277 ≤ d) (e : f_X8_on F h a0 = some v) : e_Run l D B d mX8_on [.ref a0] h (.ok (some (.int v)), h) := by
  refine e_start [some (.ref a0), none, none] (by decide) rfl rfl rfl (Nat.le_of_ble_eq_true rfl) (fun K hl0 hD0 hB0 hM hd0 hr => ?_)
  subst hl0 hD0 hB0 hd0
  have ho : (k_M K).1.cls = "PegBands$Band" := by rw [hM]; rfl
  have hT : (k_M K).2.2.2.1 = some (.int) := by rw [hM]
  refine (show Sx K cX8_on 0 [some (.ref a0), none, none] [] h (f_X8_on F h a0) (fun w => w = v) from ?_) _ e rfl
  clear e
  unfold f_X8_on
  refine S_iconst_ 0 (dc_X8_on 0 rfl) rfl ?_
  refine S_istore_n (L' := [some (.ref a0), some (.int 0), none]) (dc_X8_on 1 rfl) rfl ?_
  refine S_iconst_ 0 (dc_X8_on 2 rfl) rfl ?_
  refine S_istore_n (L' := [some (.ref a0), some (.int 0), some (.int 0)]) (dc_X8_on 3 rfl) rfl ?_
  refine Sx.regK1 (pc2 := 58) (L2 := fun (x1_58_1 : Int32) => [none, some (.int x1_58_1), none]) (st2 := fun (x1_58_1 : Int32) => []) (h2 := fun (x1_58_1 : Int32) => h) ?_ (fun Q1 hK1 => ?_)
  · intro x1_58_1
    show Sx K cX8_on 58 [none, some (.int x1_58_1), none] [] h _ _
    refine S_iload_n (dc_X8_on 36 rfl) rfl ?_
    exact S_iret (dc_X8_on 37 rfl) hT rfl (fun q => by cases q; exact hr)
  · have hK1 : ∀ (x1_58_1 : Int32), Sx K cX8_on 58 [none, some (.int x1_58_1), none] [] h (some x1_58_1) Q1 := hK1
    have ih1 : ∀ (n : Nat) (x1_4 : Int32) (x2_4 : Int32), Sx K cX8_on 4 [some (.ref a0), some (.int x1_4), some (.int x2_4)] [] h (lp_X8_on_4 F h a0 n x1_4 x2_4) Q1 := by
      intro n
      induction n with
      | zero => intro x1_4 x2_4; exact Sx.none
      | succ n ih1 =>
        intro x1_4 x2_4
        rw [lp_X8_on_4.eq_2]
        refine S_iload_n (dc_X8_on 4 rfl) rfl ?_
        refine S_aload_n (dc_X8_on 5 rfl) rfl ?_
        refine S_getI (dc_X8_on 6 rfl) ho fl_X8_28_6_2 (fun _ _ => rfl) (fun x6 e6 => ?_)
        refine S_icmp_ge 58 (dc_X8_on 7 rfl) rfl (fun c9 => ?_) (fun c9 => ?_)
        · refine Sx.cut [false, true, false] ?_
          exact hK1 x1_4
        · refine S_iload_n (dc_X8_on 8 rfl) rfl ?_
          refine S_aload_n (dc_X8_on 9 rfl) rfl ?_
          refine S_getA (dc_X8_on 10 rfl) ho fl_X8_9_6_0 (fun _ _ => rfl) (fun x14 e14 => ?_)
          refine S_aload_n (dc_X8_on 11 rfl) rfl ?_
          refine S_iload_n (dc_X8_on 12 rfl) rfl ?_
          refine S_roI (d := k_d K - 1) (e_callV (b := a0) (As := [.int x2_4]) (rest := [.ref x14, .int x1_4]) ok_X8_next rfl (Nat.le_of_ble_eq_true rfl) (dc_X8_on 13 rfl) ho q798 q799 (show e_cl[6]? = some (RX8, TX8, 4) from rfl) (e_sel.of q800) (e_fI_of e6).1 rfl (Nat.le_of_ble_eq_true rfl)) (by omega) (fun _ e => ct_X8_next (by omega) e) (fun x19 e19 => ?_)
          refine S_iald (dc_X8_on 14 rfl) (fun x22 e22 => ?_)
          refine S_aload_n (dc_X8_on 15 rfl) rfl ?_
          refine S_getA (dc_X8_on 16 rfl) ho fl_X8_9_6_0 (fun _ _ => rfl) (fun x24 e24 => ?_)
          refine S_iload_n (dc_X8_on 17 rfl) rfl ?_
          refine S_iald (dc_X8_on 18 rfl) (fun x28 e28 => ?_)
          refine S_isub (dc_X8_on 19 rfl) ?_
          refine S_aload_n (dc_X8_on 20 rfl) rfl ?_
          refine S_getA (dc_X8_on 21 rfl) ho fl_X8_15_6_1 (fun _ _ => rfl) (fun x31 e31 => ?_)
          refine S_aload_n (dc_X8_on 22 rfl) rfl ?_
          refine S_iload_n (dc_X8_on 23 rfl) rfl ?_
          refine S_roI (d := k_d K - 1) (e_callV (b := a0) (As := [.int x2_4]) (rest := [.ref x31, .int (x22 - x28), .int x1_4]) ok_X8_next rfl (Nat.le_of_ble_eq_true rfl) (dc_X8_on 24 rfl) ho q798 q799 (show e_cl[6]? = some (RX8, TX8, 4) from rfl) (e_sel.of q800) (e_fI_of e6).1 rfl (Nat.le_of_ble_eq_true rfl)) (by omega) (fun _ e => ct_X8_next (by omega) e) (fun x36 e36 => ?_)
          refine S_iald (dc_X8_on 25 rfl) (fun x39 e39 => ?_)
          refine S_aload_n (dc_X8_on 26 rfl) rfl ?_
          refine S_getA (dc_X8_on 27 rfl) ho fl_X8_15_6_1 (fun _ _ => rfl) (fun x41 e41 => ?_)
          refine S_iload_n (dc_X8_on 28 rfl) rfl ?_
          refine S_iald (dc_X8_on 29 rfl) (fun x45 e45 => ?_)
          refine S_isub (dc_X8_on 30 rfl) ?_
          refine S_roI (d := k_d K - 1) (e_callSN (As := [.int (x22 - x28), .int (x39 - x45)]) (rest := [.int x1_4]) ok_X1_common rfl (Nat.le_of_ble_eq_true rfl) (dc_X8_on 31 rfl) ho q1126 q1127 rfl (Nat.le_of_ble_eq_true rfl)) (by omega) (fun _ e => ct_X1_common 32 (by omega) e) (fun x47 e47 => ?_)
          refine S_iadd (dc_X8_on 32 rfl) ?_
          refine Sx.nameI (fun x51 n51 => ?_)
          refine S_istore_n (L' := [some (.ref a0), some (.int x51), some (.int x2_4)]) (dc_X8_on 33 rfl) rfl ?_
          refine S_iincN 1 (L' := fun x52 => [some (.ref a0), some (.int x51), some (.int x52)]) (dc_X8_on 34 rfl) rfl rfl (fun _ => rfl) (fun x52 n52 => ?_)
          refine S_goto 4 (dc_X8_on 35 rfl) rfl ?_
          exact ih1 x51 x52
    exact ih1 F 0 0
abbrev cX8_within : ByteArray := prog_3_method_10_code
def yX8_within : MethodName := ⟨"PegBands$Band", "within", "()I"⟩
def tb_X8_within : List (Nat × Instr × Nat) := [(0, .aload_n 0, 1), (1, .invokevirtual 51, 3), (4, .invokestatic 55, 3), (7, .aload_n 0, 1), (8, .invokevirtual 60, 3), (11, .isub, 1), (12, .iconst 2, 1), (13, .iadd, 1), (14, .iconst 2, 1), (15, .idiv, 1), (16, .ireturn, 1)]
theorem tk_X8_within : ∀ q ∈ tb_X8_within, decode cX8_within q.1 = .ok q.2 := by decide +kernel
theorem dc_X8_within (k : Nat) {pc n : Nat} {i : Instr} (h : tb_X8_within[k]? = some (pc, i, n)) : decode cX8_within pc = .ok (i, n) := tk_X8_within (pc, i, n) (List.mem_of_getElem? h)
abbrev mX8_within : e_M := (yX8_within, cX8_within, 1, some (.int), [])
theorem ok_X8_within : e_mok mX8_within 0 := ⟨q1133, q117, by decide +kernel, fun sig h => by cases h; rfl⟩
def f_X8_within (F : Nat) (h : e_H) (a0 : Nat) : Option Int32 :=
  Option.bind (e_is h a0 6) (fun _ =>
  Option.bind (f_X8_area F h a0) (fun x1 =>
  Option.bind (f_X8_on F h a0) (fun x8 =>
  some ((((if 0 ≤ x1 then x1 else 0 - x1) - x8) + 2) / 2))))
set_option maxHeartbeats 4000000 in
set_option maxRecDepth 100000 in
theorem ct_X8_within {l : Launch} {D : e_D} {B : Heap} {F : Nat} {d : Nat} {h : e_H} {a0 : Nat} {v : Int32} (hd : 278 ≤ d) (e : f_X8_within F h a0 = some v) : e_Run l D B d mX8_within [.ref a0] h (.ok (some (.int v)), h) := by
  refine e_start [some (.ref a0)] (by decide) rfl rfl rfl (Nat.le_of_ble_eq_true rfl) (fun K hl0 hD0 hB0 hM hd0 hr => ?_)
  subst hl0 hD0 hB0 hd0
  have ho : (k_M K).1.cls = "PegBands$Band" := by rw [hM]; rfl
  have hT : (k_M K).2.2.2.1 = some (.int) := by rw [hM]
  refine (show Sx K cX8_within 0 [some (.ref a0)] [] h (f_X8_within F h a0) (fun w => w = v) from ?_) _ e rfl
  clear e
  unfold f_X8_within
  refine S_aload_n (dc_X8_within 0 rfl) rfl ?_
  refine Sx.ask (fun _ i1 => ?_)
  refine S_roI (d := k_d K - 1) (e_callV (b := a0) (As := []) (rest := []) ok_X8_area rfl (Nat.le_of_ble_eq_true rfl) (dc_X8_within 1 rfl) ho q1134 q1119 (show e_cl[6]? = some (RX8, TX8, 4) from rfl) (e_sel.of q1120) (e_is_of i1) rfl (Nat.le_of_ble_eq_true rfl)) (by omega) (fun _ e => ct_X8_area (by omega) e) (fun x1 e1 => ?_)
  refine S_mabs (dc_X8_within 2 rfl) ho q1135 (by omega) (Nat.le_of_ble_eq_true rfl) ?_
  refine S_aload_n (dc_X8_within 3 rfl) rfl ?_
  refine S_roI (d := k_d K - 1) (e_callV (b := a0) (As := []) (rest := [.int (if 0 ≤ x1 then x1 else 0 - x1)]) ok_X8_on rfl (Nat.le_of_ble_eq_true rfl) (dc_X8_within 4 rfl) ho q1136 q1123 (show e_cl[6]? = some (RX8, TX8, 4) from rfl) (e_sel.of q1124) (e_is_of i1) rfl (Nat.le_of_ble_eq_true rfl)) (by omega) (fun _ e => ct_X8_on (by omega) e) (fun x8 e8 => ?_)
  refine S_isub (dc_X8_within 5 rfl) ?_
  refine S_iconst_ 2 (dc_X8_within 6 rfl) rfl ?_
  refine S_iadd (dc_X8_within 7 rfl) ?_
  refine S_iconst_ 2 (dc_X8_within 8 rfl) rfl ?_
  refine S_idiv (dc_X8_within 9 rfl) (by decide) ?_
  exact S_iret (dc_X8_within 10 rfl) hT rfl (fun q => by cases q; exact hr)
abbrev cX8_right : ByteArray := prog_3_method_13_code
def yX8_right : MethodName := ⟨"PegBands$Band", "right", "()I"⟩
def tb_X8_right : List (Nat × Instr × Nat) := [(0, .iconst 0, 1), (1, .istore_n 1, 1), (2, .iconst 0, 1), (3, .istore_n 2, 1), (4, .iload_n 2, 1), (5, .aload_n 0, 1), (6, .getfield 28, 3), (9, .if_icmp .ge 91, 3), (12, .iload_n 1, 1), (13, .aload_n 0, 1), (14, .getfield 9, 3), (17, .aload_n 0, 1), (18, .iload_n 2, 1), (19, .invokevirtual 36, 3), (22, .iaload, 1), (23, .aload_n 0, 1), (24, .getfield 9, 3), (27, .iload_n 2, 1), (28, .iaload, 1), (29, .isub, 1), (30, .aload_n 0, 1), (31, .getfield 9, 3), (34, .aload_n 0, 1), (35, .iload_n 2, 1), (36, .invokevirtual 40, 3), (39, .iaload, 1), (40, .aload_n 0, 1), (41, .getfield 9, 3), (44, .iload_n 2, 1), (45, .iaload, 1), (46, .isub, 1), (47, .imul, 1), (48, .aload_n 0, 1), (49, .getfield 15, 3), (52, .aload_n 0, 1), (53, .iload_n 2, 1), (54, .invokevirtual 36, 3), (57, .iaload, 1), (58, .aload_n 0, 1), (59, .getfield 15, 3), (62, .iload_n 2, 1), (63, .iaload, 1), (64, .isub, 1), (65, .aload_n 0, 1), (66, .getfield 15, 3), (69, .aload_n 0, 1), (70, .iload_n 2, 1), (71, .invokevirtual 40, 3), (74, .iaload, 1), (75, .aload_n 0, 1), (76, .getfield 15, 3), (79, .iload_n 2, 1), (80, .iaload, 1), (81, .isub, 1), (82, .imul, 1), (83, .iadd, 1), (84, .ifCond .ne 7, 3), (87, .iconst 1, 1), (88, .goto 4, 3), (91, .iconst 0, 1), (92, .iadd, 1), (93, .istore_n 1, 1), (94, .iinc 2 1, 3), (97, .goto (-93), 3), (100, .iload_n 1, 1), (101, .ireturn, 1)]
theorem tk_X8_right : ∀ q ∈ tb_X8_right, decode cX8_right q.1 = .ok q.2 := by decide +kernel
theorem dc_X8_right (k : Nat) {pc n : Nat} {i : Instr} (h : tb_X8_right[k]? = some (pc, i, n)) : decode cX8_right pc = .ok (i, n) := tk_X8_right (pc, i, n) (List.mem_of_getElem? h)
abbrev mX8_right : e_M := (yX8_right, cX8_right, 3, some (.int), [])
theorem ok_X8_right : e_mok mX8_right 0 := ⟨q1362, q117, by decide +kernel, fun sig h => by cases h; rfl⟩
def lp_X8_right_4 (F : Nat) (h : e_H) (a0 : Nat) : Nat → Int32 → Int32 → Option (Int32)
  | 0, _, _ => none
  | n + 1, x1_4, x2_4 =>
    Option.bind (e_fI h a0 6 2) (fun x6 =>
    if x6 ≤ x2_4 then
      some x1_4
    else
      Option.bind (e_fA h a0 6 0) (fun x14 =>
      Option.bind (f_X8_last h a0 x2_4) (fun x19 =>
      Option.bind (e_aI h x14 0 x19) (fun x22 =>
      Option.bind (e_fA h a0 6 0) (fun x24 =>
      Option.bind (e_aI h x24 0 x2_4) (fun x28 =>
      Option.bind (e_fA h a0 6 0) (fun x31 =>
      Option.bind (f_X8_next h a0 x2_4) (fun x36 =>
      Option.bind (e_aI h x31 0 x36) (fun x39 =>
      Option.bind (e_fA h a0 6 0) (fun x41 =>
      Option.bind (e_aI h x41 0 x2_4) (fun x45 =>
      Option.bind (e_fA h a0 6 1) (fun x49 =>
      Option.bind (f_X8_last h a0 x2_4) (fun x54 =>
      Option.bind (e_aI h x49 0 x54) (fun x57 =>
      Option.bind (e_fA h a0 6 1) (fun x59 =>
      Option.bind (e_aI h x59 0 x2_4) (fun x63 =>
      Option.bind (e_fA h a0 6 1) (fun x66 =>
      Option.bind (f_X8_next h a0 x2_4) (fun x71 =>
      Option.bind (e_aI h x66 0 x71) (fun x74 =>
      Option.bind (e_fA h a0 6 1) (fun x76 =>
      Option.bind (e_aI h x76 0 x2_4) (fun x80 =>
      Option.bind (
          if (((x22 - x28) * (x39 - x45)) + ((x57 - x63) * (x74 - x80))) = 0 then
            some 1
          else
            some 0
        : Option (Int32)) (fun s92_2 =>
      Option.bind (some (x1_4 + s92_2)) (fun x93 =>
      Option.bind (some (x2_4 + 1)) (fun x94 =>
      lp_X8_right_4 F h a0 n x93 x94))))))))))))))))))))))))
def f_X8_right (F : Nat) (h : e_H) (a0 : Nat) : Option Int32 :=
  Option.bind (
      lp_X8_right_4 F h a0 F 0 0
    : Option (Int32)) (fun x1_100_1 =>
  some x1_100_1)
set_option maxHeartbeats 4000000 in
set_option maxRecDepth 100000 in
theorem ct_X8_right {l : Launch} {D : e_D} {B : Heap} {F : Nat} {d : Nat} {h : e_H} {a0 : Nat} {v : Int32} (hd : 2 ≤ d) (e : f_X8_right F h a0 = some v) : e_Run l D B d mX8_right [.ref a0] h (.ok (some (.int v)), h) := by
  refine e_start [some (.ref a0), none, none] (by decide) rfl rfl rfl (Nat.le_of_ble_eq_true rfl) (fun K hl0 hD0 hB0 hM hd0 hr => ?_)
  subst hl0 hD0 hB0 hd0
  have ho : (k_M K).1.cls = "PegBands$Band" := by rw [hM]; rfl
  have hT : (k_M K).2.2.2.1 = some (.int) := by rw [hM]
  refine (show Sx K cX8_right 0 [some (.ref a0), none, none] [] h (f_X8_right F h a0) (fun w => w = v) from ?_) _ e rfl
  clear e
  unfold f_X8_right
  refine S_iconst_ 0 (dc_X8_right 0 rfl) rfl ?_
  refine S_istore_n (L' := [some (.ref a0), some (.int 0), none]) (dc_X8_right 1 rfl) rfl ?_
  refine S_iconst_ 0 (dc_X8_right 2 rfl) rfl ?_
  refine S_istore_n (L' := [some (.ref a0), some (.int 0), some (.int 0)]) (dc_X8_right 3 rfl) rfl ?_
  refine Sx.regK1 (pc2 := 100) (L2 := fun (x1_100_1 : Int32) => [none, some (.int x1_100_1), none]) (st2 := fun (x1_100_1 : Int32) => []) (h2 := fun (x1_100_1 : Int32) => h) ?_ (fun Q1 hK1 => ?_)
  · intro x1_100_1
    show Sx K cX8_right 100 [none, some (.int x1_100_1), none] [] h _ _
    refine S_iload_n (dc_X8_right 64 rfl) rfl ?_
    exact S_iret (dc_X8_right 65 rfl) hT rfl (fun q => by cases q; exact hr)
  · have hK1 : ∀ (x1_100_1 : Int32), Sx K cX8_right 100 [none, some (.int x1_100_1), none] [] h (some x1_100_1) Q1 := hK1
    have ih1 : ∀ (n : Nat) (x1_4 : Int32) (x2_4 : Int32), Sx K cX8_right 4 [some (.ref a0), some (.int x1_4), some (.int x2_4)] [] h (lp_X8_right_4 F h a0 n x1_4 x2_4) Q1 := by
      intro n
      induction n with
      | zero => intro x1_4 x2_4; exact Sx.none
      | succ n ih1 =>
        intro x1_4 x2_4
        rw [lp_X8_right_4.eq_2]
        refine S_iload_n (dc_X8_right 4 rfl) rfl ?_
        refine S_aload_n (dc_X8_right 5 rfl) rfl ?_
        refine S_getI (dc_X8_right 6 rfl) ho fl_X8_28_6_2 (fun _ _ => rfl) (fun x6 e6 => ?_)
        refine S_icmp_ge 100 (dc_X8_right 7 rfl) rfl (fun c9 => ?_) (fun c9 => ?_)
        · refine Sx.cut [false, true, false] ?_
          exact hK1 x1_4
        · refine S_iload_n (dc_X8_right 8 rfl) rfl ?_
          refine S_aload_n (dc_X8_right 9 rfl) rfl ?_
          refine S_getA (dc_X8_right 10 rfl) ho fl_X8_9_6_0 (fun _ _ => rfl) (fun x14 e14 => ?_)
          refine S_aload_n (dc_X8_right 11 rfl) rfl ?_
          refine S_iload_n (dc_X8_right 12 rfl) rfl ?_
          refine S_roI (d := k_d K - 1) (e_callV (b := a0) (As := [.int x2_4]) (rest := [.ref x14, .int x1_4]) ok_X8_last rfl (Nat.le_of_ble_eq_true rfl) (dc_X8_right 13 rfl) ho q794 q795 (show e_cl[6]? = some (RX8, TX8, 4) from rfl) (e_sel.of q796) (e_fI_of e6).1 rfl (Nat.le_of_ble_eq_true rfl)) (by omega) (fun _ e => ct_X8_last (by omega) e) (fun x19 e19 => ?_)
          refine S_iald (dc_X8_right 14 rfl) (fun x22 e22 => ?_)
          refine S_aload_n (dc_X8_right 15 rfl) rfl ?_
          refine S_getA (dc_X8_right 16 rfl) ho fl_X8_9_6_0 (fun _ _ => rfl) (fun x24 e24 => ?_)
          refine S_iload_n (dc_X8_right 17 rfl) rfl ?_
          refine S_iald (dc_X8_right 18 rfl) (fun x28 e28 => ?_)
          refine S_isub (dc_X8_right 19 rfl) ?_
          refine S_aload_n (dc_X8_right 20 rfl) rfl ?_
          refine S_getA (dc_X8_right 21 rfl) ho fl_X8_9_6_0 (fun _ _ => rfl) (fun x31 e31 => ?_)
          refine S_aload_n (dc_X8_right 22 rfl) rfl ?_
          refine S_iload_n (dc_X8_right 23 rfl) rfl ?_
          refine S_roI (d := k_d K - 1) (e_callV (b := a0) (As := [.int x2_4]) (rest := [.ref x31, .int (x22 - x28), .int x1_4]) ok_X8_next rfl (Nat.le_of_ble_eq_true rfl) (dc_X8_right 24 rfl) ho q798 q799 (show e_cl[6]? = some (RX8, TX8, 4) from rfl) (e_sel.of q800) (e_fI_of e6).1 rfl (Nat.le_of_ble_eq_true rfl)) (by omega) (fun _ e => ct_X8_next (by omega) e) (fun x36 e36 => ?_)
          refine S_iald (dc_X8_right 25 rfl) (fun x39 e39 => ?_)
          refine S_aload_n (dc_X8_right 26 rfl) rfl ?_
          refine S_getA (dc_X8_right 27 rfl) ho fl_X8_9_6_0 (fun _ _ => rfl) (fun x41 e41 => ?_)
          refine S_iload_n (dc_X8_right 28 rfl) rfl ?_
          refine S_iald (dc_X8_right 29 rfl) (fun x45 e45 => ?_)
          refine S_isub (dc_X8_right 30 rfl) ?_
          refine S_imul (dc_X8_right 31 rfl) ?_
          refine S_aload_n (dc_X8_right 32 rfl) rfl ?_
          refine S_getA (dc_X8_right 33 rfl) ho fl_X8_15_6_1 (fun _ _ => rfl) (fun x49 e49 => ?_)
          refine S_aload_n (dc_X8_right 34 rfl) rfl ?_
          refine S_iload_n (dc_X8_right 35 rfl) rfl ?_
          refine S_roI (d := k_d K - 1) (e_callV (b := a0) (As := [.int x2_4]) (rest := [.ref x49, .int ((x22 - x28) * (x39 - x45)), .int x1_4]) ok_X8_last rfl (Nat.le_of_ble_eq_true rfl) (dc_X8_right 36 rfl) ho q794 q795 (show e_cl[6]? = some (RX8, TX8, 4) from rfl) (e_sel.of q796) (e_fI_of e6).1 rfl (Nat.le_of_ble_eq_true rfl)) (by omega) (fun _ e => ct_X8_last (by omega) e) (fun x54 e54 => ?_)
          refine S_iald (dc_X8_right 37 rfl) (fun x57 e57 => ?_)
          refine S_aload_n (dc_X8_right 38 rfl) rfl ?_
          refine S_getA (dc_X8_right 39 rfl) ho fl_X8_15_6_1 (fun _ _ => rfl) (fun x59 e59 => ?_)
          refine S_iload_n (dc_X8_right 40 rfl) rfl ?_
          refine S_iald (dc_X8_right 41 rfl) (fun x63 e63 => ?_)
          refine S_isub (dc_X8_right 42 rfl) ?_
          refine S_aload_n (dc_X8_right 43 rfl) rfl ?_
          refine S_getA (dc_X8_right 44 rfl) ho fl_X8_15_6_1 (fun _ _ => rfl) (fun x66 e66 => ?_)
          refine S_aload_n (dc_X8_right 45 rfl) rfl ?_
          refine S_iload_n (dc_X8_right 46 rfl) rfl ?_
          refine S_roI (d := k_d K - 1) (e_callV (b := a0) (As := [.int x2_4]) (rest := [.ref x66, .int (x57 - x63), .int ((x22 - x28) * (x39 - x45)), .int x1_4]) ok_X8_next rfl (Nat.le_of_ble_eq_true rfl) (dc_X8_right 47 rfl) ho q798 q799 (show e_cl[6]? = some (RX8, TX8, 4) from rfl) (e_sel.of q800) (e_fI_of e6).1 rfl (Nat.le_of_ble_eq_true rfl)) (by omega) (fun _ e => ct_X8_next (by omega) e) (fun x71 e71 => ?_)
          refine S_iald (dc_X8_right 48 rfl) (fun x74 e74 => ?_)
          refine S_aload_n (dc_X8_right 49 rfl) rfl ?_
          refine S_getA (dc_X8_right 50 rfl) ho fl_X8_15_6_1 (fun _ _ => rfl) (fun x76 e76 => ?_)
          refine S_iload_n (dc_X8_right 51 rfl) rfl ?_
          refine S_iald (dc_X8_right 52 rfl) (fun x80 e80 => ?_)
          refine S_isub (dc_X8_right 53 rfl) ?_
          refine S_imul (dc_X8_right 54 rfl) ?_
          refine S_iadd (dc_X8_right 55 rfl) ?_
          refine Sx.regK1 (pc2 := 92) (L2 := fun (s92_2 : Int32) => [some (.ref a0), none, some (.int x2_4)]) (st2 := fun (s92_2 : Int32) => [.int s92_2, .int x1_4]) (h2 := fun (s92_2 : Int32) => h) ?_ (fun Q2 hK2 => ?_)
          · intro s92_2
            show Sx K cX8_right 92 [some (.ref a0), none, some (.int x2_4)] [.int s92_2, .int x1_4] h _ _
            refine S_iadd (dc_X8_right 60 rfl) ?_
            refine Sx.nameI (fun x93 n93 => ?_)
            refine S_istore_n (L' := [some (.ref a0), some (.int x93), some (.int x2_4)]) (dc_X8_right 61 rfl) rfl ?_
            refine S_iincN 1 (L' := fun x94 => [some (.ref a0), some (.int x93), some (.int x94)]) (dc_X8_right 62 rfl) rfl rfl (fun _ => rfl) (fun x94 n94 => ?_)
            refine S_goto 4 (dc_X8_right 63 rfl) rfl ?_
            exact ih1 x93 x94
          · have hK2 : ∀ (s92_2 : Int32), Sx K cX8_right 92 [some (.ref a0), none, some (.int x2_4)] [.int s92_2, .int x1_4] h (some s92_2) Q2 := hK2
            refine S_if_ne 91 (dc_X8_right 56 rfl) rfl (fun c84 => ?_) (fun c84 => ?_)
            · refine S_iconst_ 0 (dc_X8_right 59 rfl) rfl ?_
              refine Sx.cut [true, false, true] ?_
              exact hK2 0
            · refine S_iconst_ 1 (dc_X8_right 57 rfl) rfl ?_
              refine S_goto 92 (dc_X8_right 58 rfl) rfl ?_
              refine Sx.cut [true, false, true] ?_
              exact hK2 1
    exact ih1 F 0 0
abbrev cX8_bent : ByteArray := prog_3_method_12_code
def yX8_bent : MethodName := ⟨"PegBands$Band", "bent", "()I"⟩
def tb_X8_bent : List (Nat × Instr × Nat) := [(0, .iconst 0, 1), (1, .istore_n 1, 1), (2, .iconst 0, 1), (3, .istore_n 2, 1), (4, .iload_n 2, 1), (5, .aload_n 0, 1), (6, .getfield 28, 3), (9, .if_icmp .ge 32, 3), (12, .iload_n 1, 1), (13, .aload_n 0, 1), (14, .iload_n 2, 1), (15, .invokevirtual 63, 3), (18, .aload_n 0, 1), (19, .invokevirtual 51, 3), (22, .invokestatic 66, 3), (25, .ifCond .eq 7, 3), (28, .iconst 1, 1), (29, .goto 4, 3), (32, .iconst 0, 1), (33, .iadd, 1), (34, .istore_n 1, 1), (35, .iinc 2 1, 3), (38, .goto (-34), 3), (41, .iload_n 1, 1), (42, .ireturn, 1)]
theorem tk_X8_bent : ∀ q ∈ tb_X8_bent, decode cX8_bent q.1 = .ok q.2 := by decide +kernel
theorem dc_X8_bent (k : Nat) {pc n : Nat} {i : Instr} (h : tb_X8_bent[k]? = some (pc, i, n)) : decode cX8_bent pc = .ok (i, n) := tk_X8_bent (pc, i, n) (List.mem_of_getElem? h)
abbrev mX8_bent : e_M := (yX8_bent, cX8_bent, 3, some (.int), [])
theorem ok_X8_bent : e_mok mX8_bent 0 := ⟨q1366, q117, by decide +kernel, fun sig h => by cases h; rfl⟩
def lp_X8_bent_4 (F : Nat) (h : e_H) (a0 : Nat) : Nat → Int32 → Int32 → Option (Int32)
  | 0, _, _ => none
  | n + 1, x1_4, x2_4 =>
    Option.bind (e_fI h a0 6 2) (fun x6 =>
    if x6 ≤ x2_4 then
      some x1_4
    else
      Option.bind (f_X8_turnAt h a0 x2_4) (fun x15 =>
      Option.bind (f_X8_area F h a0) (fun x19 =>
      Option.bind (f_X1_areUnlike x15 x19) (fun x22 =>
      Option.bind (
          if x22 = 0 then
            some 0
          else
            some 1
        : Option (Int32)) (fun s33_2 =>
      Option.bind (some (x1_4 + s33_2)) (fun x34 =>
      Option.bind (some (x2_4 + 1)) (fun x35 =>
      lp_X8_bent_4 F h a0 n x34 x35)))))))
def f_X8_bent (F : Nat) (h : e_H) (a0 : Nat) : Option Int32 :=
  Option.bind (
      lp_X8_bent_4 F h a0 F 0 0
    : Option (Int32)) (fun x1_41_1 =>
  some x1_41_1)
set_option maxHeartbeats 4000000 in
set_option maxRecDepth 100000 in
theorem ct_X8_bent {l : Launch} {D : e_D} {B : Heap} {F : Nat} {d : Nat} {h : e_H} {a0 : Nat} {v : Int32} (hd : 3 ≤ d) (e : f_X8_bent F h a0 = some v) : e_Run l D B d mX8_bent [.ref a0] h (.ok (some (.int v)), h) := by
  refine e_start [some (.ref a0), none, none] (by decide) rfl rfl rfl (Nat.le_of_ble_eq_true rfl) (fun K hl0 hD0 hB0 hM hd0 hr => ?_)
  subst hl0 hD0 hB0 hd0
  have ho : (k_M K).1.cls = "PegBands$Band" := by rw [hM]; rfl
  have hT : (k_M K).2.2.2.1 = some (.int) := by rw [hM]
  refine (show Sx K cX8_bent 0 [some (.ref a0), none, none] [] h (f_X8_bent F h a0) (fun w => w = v) from ?_) _ e rfl
  clear e
  unfold f_X8_bent
  refine S_iconst_ 0 (dc_X8_bent 0 rfl) rfl ?_
  refine S_istore_n (L' := [some (.ref a0), some (.int 0), none]) (dc_X8_bent 1 rfl) rfl ?_
  refine S_iconst_ 0 (dc_X8_bent 2 rfl) rfl ?_
  refine S_istore_n (L' := [some (.ref a0), some (.int 0), some (.int 0)]) (dc_X8_bent 3 rfl) rfl ?_
  refine Sx.regK1 (pc2 := 41) (L2 := fun (x1_41_1 : Int32) => [none, some (.int x1_41_1), none]) (st2 := fun (x1_41_1 : Int32) => []) (h2 := fun (x1_41_1 : Int32) => h) ?_ (fun Q1 hK1 => ?_)
  · intro x1_41_1
    show Sx K cX8_bent 41 [none, some (.int x1_41_1), none] [] h _ _
    refine S_iload_n (dc_X8_bent 23 rfl) rfl ?_
    exact S_iret (dc_X8_bent 24 rfl) hT rfl (fun q => by cases q; exact hr)
  · have hK1 : ∀ (x1_41_1 : Int32), Sx K cX8_bent 41 [none, some (.int x1_41_1), none] [] h (some x1_41_1) Q1 := hK1
    have ih1 : ∀ (n : Nat) (x1_4 : Int32) (x2_4 : Int32), Sx K cX8_bent 4 [some (.ref a0), some (.int x1_4), some (.int x2_4)] [] h (lp_X8_bent_4 F h a0 n x1_4 x2_4) Q1 := by
      intro n
      induction n with
      | zero => intro x1_4 x2_4; exact Sx.none
      | succ n ih1 =>
        intro x1_4 x2_4
        rw [lp_X8_bent_4.eq_2]
        refine S_iload_n (dc_X8_bent 4 rfl) rfl ?_
        refine S_aload_n (dc_X8_bent 5 rfl) rfl ?_
        refine S_getI (dc_X8_bent 6 rfl) ho fl_X8_28_6_2 (fun _ _ => rfl) (fun x6 e6 => ?_)
        refine S_icmp_ge 41 (dc_X8_bent 7 rfl) rfl (fun c9 => ?_) (fun c9 => ?_)
        · refine Sx.cut [false, true, false] ?_
          exact hK1 x1_4
        · refine S_iload_n (dc_X8_bent 8 rfl) rfl ?_
          refine S_aload_n (dc_X8_bent 9 rfl) rfl ?_
          refine S_iload_n (dc_X8_bent 10 rfl) rfl ?_
          refine S_roI (d := k_d K - 1) (e_callV (b := a0) (As := [.int x2_4]) (rest := [.int x1_4]) ok_X8_turnAt rfl (Nat.le_of_ble_eq_true rfl) (dc_X8_bent 11 rfl) ho q790 q791 (show e_cl[6]? = some (RX8, TX8, 4) from rfl) (e_sel.of q792) (e_fI_of e6).1 rfl (Nat.le_of_ble_eq_true rfl)) (by omega) (fun _ e => ct_X8_turnAt (by omega) e) (fun x15 e15 => ?_)
          refine S_aload_n (dc_X8_bent 12 rfl) rfl ?_
          refine S_roI (d := k_d K - 1) (e_callV (b := a0) (As := []) (rest := [.int x15, .int x1_4]) ok_X8_area rfl (Nat.le_of_ble_eq_true rfl) (dc_X8_bent 13 rfl) ho q1134 q1119 (show e_cl[6]? = some (RX8, TX8, 4) from rfl) (e_sel.of q1120) (e_fI_of e6).1 rfl (Nat.le_of_ble_eq_true rfl)) (by omega) (fun _ e => ct_X8_area (by omega) e) (fun x19 e19 => ?_)
          refine S_roI (d := k_d K - 1) (e_callSN (As := [.int x15, .int x19]) (rest := [.int x1_4]) ok_X1_areUnlike rfl (Nat.le_of_ble_eq_true rfl) (dc_X8_bent 14 rfl) ho q1367 q814 rfl (Nat.le_of_ble_eq_true rfl)) (by omega) (fun _ e => ct_X1_areUnlike (by omega) e) (fun x22 e22 => ?_)
          refine Sx.regK1 (pc2 := 33) (L2 := fun (s33_2 : Int32) => [some (.ref a0), none, some (.int x2_4)]) (st2 := fun (s33_2 : Int32) => [.int s33_2, .int x1_4]) (h2 := fun (s33_2 : Int32) => h) ?_ (fun Q2 hK2 => ?_)
          · intro s33_2
            show Sx K cX8_bent 33 [some (.ref a0), none, some (.int x2_4)] [.int s33_2, .int x1_4] h _ _
            refine S_iadd (dc_X8_bent 19 rfl) ?_
            refine Sx.nameI (fun x34 n34 => ?_)
            refine S_istore_n (L' := [some (.ref a0), some (.int x34), some (.int x2_4)]) (dc_X8_bent 20 rfl) rfl ?_
            refine S_iincN 1 (L' := fun x35 => [some (.ref a0), some (.int x34), some (.int x35)]) (dc_X8_bent 21 rfl) rfl rfl (fun _ => rfl) (fun x35 n35 => ?_)
            refine S_goto 4 (dc_X8_bent 22 rfl) rfl ?_
            exact ih1 x34 x35
          · have hK2 : ∀ (s33_2 : Int32), Sx K cX8_bent 33 [some (.ref a0), none, some (.int x2_4)] [.int s33_2, .int x1_4] h (some s33_2) Q2 := hK2
            refine S_if_eq 32 (dc_X8_bent 15 rfl) rfl (fun c25 => ?_) (fun c25 => ?_)
            · refine S_iconst_ 0 (dc_X8_bent 18 rfl) rfl ?_
              refine Sx.cut [true, false, true] ?_
              exact hK2 0
            · refine S_iconst_ 1 (dc_X8_bent 16 rfl) rfl ?_
              refine S_goto 33 (dc_X8_bent 17 rfl) rfl ?_
              refine Sx.cut [true, false, true] ?_
              exact hK2 1
    exact ih1 F 0 0
abbrev cX13_is : ByteArray := prog_10_method_2_code
def yX13_is : MethodName := ⟨"PegBands$Counts", "is", "(LPegBands;I)Z"⟩
def tb_X13_is : List (Nat × Instr × Nat) := [(0, .aload_n 1, 1), (1, .getfield 19, 3), (4, .getfield 25, 3), (7, .iload_n 2, 1), (8, .aaload, 1), (9, .astore_n 3, 1), (10, .aload_n 0, 1), (11, .getfield 7, 3), (14, .ifCond .ne 13, 3), (17, .aload_n 3, 1), (18, .invokevirtual 31, 3), (21, .invokestatic 37, 3), (24, .goto 67, 3), (27, .aload_n 0, 1), (28, .getfield 7, 3), (31, .iconst 1, 1), (32, .if_icmp .ne 10, 3), (35, .aload_n 3, 1), (36, .invokevirtual 43, 3), (39, .goto 52, 3), (42, .aload_n 0, 1), (43, .getfield 7, 3), (46, .iconst 2, 1), (47, .if_icmp .ne 10, 3), (50, .aload_n 3, 1), (51, .invokevirtual 46, 3), (54, .goto 37, 3), (57, .aload_n 0, 1), (58, .getfield 7, 3), (61, .iconst 3, 1), (62, .if_icmp .ne 10, 3), (65, .aload_n 3, 1), (66, .getfield 49, 3), (69, .goto 22, 3), (72, .aload_n 0, 1), (73, .getfield 7, 3), (76, .iconst 4, 1), (77, .if_icmp .ne 10, 3), (80, .aload_n 3, 1), (81, .invokevirtual 52, 3), (84, .goto 7, 3), (87, .aload_n 3, 1), (88, .invokevirtual 55, 3), (91, .istore 4, 2), (93, .aload_n 0, 1), (94, .getfield 13, 3), (97, .bipush 60, 2), (99, .if_icmp .ne 20, 3), (102, .iload 4, 2), (104, .aload_n 0, 1), (105, .getfield 16, 3), (108, .if_icmp .ge 7, 3), (111, .iconst 1, 1), (112, .goto 47, 3), (115, .iconst 0, 1), (116, .goto 43, 3), (119, .aload_n 0, 1), (120, .getfield 13, 3), (123, .bipush 61, 2), (125, .if_icmp .ne 20, 3), (128, .iload 4, 2), (130, .aload_n 0, 1), (131, .getfield 16, 3), (134, .if_icmp .ne 7, 3), (137, .iconst 1, 1), (138, .goto 21, 3), (141, .iconst 0, 1), (142, .goto 17, 3), (145, .iload 4, 2), (147, .aload_n 0, 1), (148, .getfield 16, 3), (151, .if_icmp .le 7, 3), (154, .iconst 1, 1), (155, .goto 4, 3), (158, .iconst 0, 1), (159, .ireturn, 1)]
theorem tk_X13_is : ∀ q ∈ tb_X13_is, decode cX13_is q.1 = .ok q.2 := by decide +kernel
theorem dc_X13_is (k : Nat) {pc n : Nat} {i : Instr} (h : tb_X13_is[k]? = some (pc, i, n)) : decode cX13_is pc = .ok (i, n) := tk_X13_is (pc, i, n) (List.mem_of_getElem? h)
abbrev mX13_is : e_M := (yX13_is, cX13_is, 5, some (.boolean), [])
theorem ok_X13_is : e_mok mX13_is 2 := ⟨q1354, q130, by decide +kernel, fun sig h => by cases h; rfl⟩
theorem fl_X13_19_0_6 : e_FL "PegBands$Counts" 19 0 6 := ⟨_, rfl, by decide, Or.inr (Or.inr (Or.inl ⟨_, q460⟩))⟩
theorem fl_X13_25_2_0 : e_FL "PegBands$Counts" 25 2 0 := ⟨_, rfl, by decide, Or.inr (Or.inr (Or.inl ⟨_, q240⟩))⟩
theorem fl_X13_49_6_2 : e_FL "PegBands$Counts" 49 6 2 := ⟨_, rfl, by decide, Or.inr (Or.inr (Or.inl ⟨_, q398⟩))⟩
def f_X13_is (F : Nat) (h : e_H) (a0 : Nat) (a1 : Nat) (a2 : Int32) : Option Int32 :=
  Option.bind (e_fA h a1 0 6) (fun x1 =>
  Option.bind (e_fA h x1 2 0) (fun x4 =>
  Option.bind (e_aA h x4 4 a2) (fun x8 =>
  Option.bind (e_fI h a0 10 0) (fun x11 =>
  Option.bind (
      if x11 = 0 then
        Option.bind (e_is h x8 6) (fun _ =>
        Option.bind (f_X8_area F h x8) (fun x18 =>
        some (if 0 ≤ x18 then x18 else 0 - x18)))
      else
        Option.bind (e_fI h a0 10 0) (fun x28 =>
        if x28 = 1 then
          Option.bind (e_is h x8 6) (fun _ =>
          Option.bind (f_X8_on F h x8) (fun x36 =>
          some x36))
        else
          Option.bind (e_fI h a0 10 0) (fun x43 =>
          if x43 = 2 then
            Option.bind (e_is h x8 6) (fun _ =>
            Option.bind (f_X8_within F h x8) (fun x51 =>
            some x51))
          else
            Option.bind (e_fI h a0 10 0) (fun x58 =>
            if x58 = 3 then
              Option.bind (e_fI h x8 6 2) (fun x66 =>
              some x66)
            else
              Option.bind (e_fI h a0 10 0) (fun x73 =>
              if x73 = 4 then
                Option.bind (e_is h x8 6) (fun _ =>
                Option.bind (f_X8_right F h x8) (fun x81 =>
                some x81))
              else
                Option.bind (e_is h x8 6) (fun _ =>
                Option.bind (f_X8_bent F h x8) (fun x88 =>
                some x88))))))
    : Option (Int32)) (fun s91_1 =>
  Option.bind (e_fI h a0 10 1) (fun x94 =>
  if x94 = 60 then
    Option.bind (e_fI h a0 10 2) (fun x105 =>
    if x105 ≤ s91_1 then
      some 0
    else
      some 1)
  else
    Option.bind (e_fI h a0 10 1) (fun x120 =>
    if x120 = 61 then
      Option.bind (e_fI h a0 10 2) (fun x131 =>
      if s91_1 = x131 then
        some 1
      else
        some 0)
    else
      Option.bind (e_fI h a0 10 2) (fun x148 =>
      if s91_1 ≤ x148 then
        some 0
      else
        some 1))))))))
set_option maxHeartbeats 4000000 in
set_option maxRecDepth 100000 in
theorem ct_X13_is {l : Launch} {D : e_D} {B : Heap} {F : Nat} {d : Nat} {h : e_H} {a0 : Nat} {a1 : Nat} {a2 : Int32} {v : Int32} (hd : 279 ≤ d) (e : f_X13_is F h a0 a1 a2 = some v) : e_Run l D B d mX13_is [.ref a0, .ref a1, .int a2] h (.ok (some (.int v)), h) := by
  refine e_start [some (.ref a0), some (.ref a1), some (.int a2), none, none] (by decide) rfl rfl rfl (Nat.le_of_ble_eq_true rfl) (fun K hl0 hD0 hB0 hM hd0 hr => ?_)
  subst hl0 hD0 hB0 hd0
  have ho : (k_M K).1.cls = "PegBands$Counts" := by rw [hM]; rfl
  have hT : (k_M K).2.2.2.1 = some (.boolean) := by rw [hM]
  refine (show Sx K cX13_is 0 [some (.ref a0), some (.ref a1), some (.int a2), none, none] [] h (f_X13_is F h a0 a1 a2) (fun w => w = v) from ?_) _ e rfl
  clear e
  unfold f_X13_is
  refine S_aload_n (dc_X13_is 0 rfl) rfl ?_
  refine S_getA (dc_X13_is 1 rfl) ho fl_X13_19_0_6 (fun _ _ => rfl) (fun x1 e1 => ?_)
  refine S_getA (dc_X13_is 2 rfl) ho fl_X13_25_2_0 (fun _ _ => rfl) (fun x4 e4 => ?_)
  refine S_iload_n (dc_X13_is 3 rfl) rfl ?_
  refine S_aaldA4 (dc_X13_is 4 rfl) (fun x8 e8 => ?_)
  refine S_astore_n (L' := [some (.ref a0), some (.ref a1), some (.int a2), some (.ref x8), none]) (dc_X13_is 5 rfl) rfl ?_
  refine S_aload_n (dc_X13_is 6 rfl) rfl ?_
  refine S_getI (dc_X13_is 7 rfl) ho fl_X13_7_10_0 (fun _ _ => rfl) (fun x11 e11 => ?_)
  refine Sx.regK1 (pc2 := 91) (L2 := fun (s91_1 : Int32) => [some (.ref a0), none, none, none, none]) (st2 := fun (s91_1 : Int32) => [.int s91_1]) (h2 := fun (s91_1 : Int32) => h) ?_ (fun Q1 hK1 => ?_)
  · intro s91_1
    show Sx K cX13_is 91 [some (.ref a0), none, none, none, none] [.int s91_1] h _ _
    refine S_istore (L' := [some (.ref a0), none, none, none, some (.int s91_1)]) (dc_X13_is 43 rfl) rfl ?_
    refine S_aload_n (dc_X13_is 44 rfl) rfl ?_
    refine S_getI (dc_X13_is 45 rfl) ho fl_X13_13_10_1 (fun _ _ => rfl) (fun x94 e94 => ?_)
    refine S_bipush_ 60 (dc_X13_is 46 rfl) rfl ?_
    refine S_icmp_ne 119 (dc_X13_is 47 rfl) rfl (fun c99 => ?_) (fun c99 => ?_)
    · refine S_aload_n (dc_X13_is 56 rfl) rfl ?_
      refine S_getI (dc_X13_is 57 rfl) ho fl_X13_13_10_1 (fun _ _ => rfl) (fun x120 e120 => ?_)
      refine S_bipush_ 61 (dc_X13_is 58 rfl) rfl ?_
      refine S_icmp_ne 145 (dc_X13_is 59 rfl) rfl (fun c125 => ?_) (fun c125 => ?_)
      · refine S_iload (dc_X13_is 68 rfl) rfl ?_
        refine S_aload_n (dc_X13_is 69 rfl) rfl ?_
        refine S_getI (dc_X13_is 70 rfl) ho fl_X13_16_10_2 (fun _ _ => rfl) (fun x148 e148 => ?_)
        refine S_icmp_le 158 (dc_X13_is 71 rfl) rfl (fun c151 => ?_) (fun c151 => ?_)
        · refine S_iconst_ 0 (dc_X13_is 74 rfl) rfl ?_
          exact S_iret (dc_X13_is 75 rfl) hT rfl (fun q => by cases q; exact hr)
        · refine S_iconst_ 1 (dc_X13_is 72 rfl) rfl ?_
          refine S_goto 159 (dc_X13_is 73 rfl) rfl ?_
          exact S_iret (dc_X13_is 75 rfl) hT rfl (fun q => by cases q; exact hr)
      · refine S_iload (dc_X13_is 60 rfl) rfl ?_
        refine S_aload_n (dc_X13_is 61 rfl) rfl ?_
        refine S_getI (dc_X13_is 62 rfl) ho fl_X13_16_10_2 (fun _ _ => rfl) (fun x131 e131 => ?_)
        refine S_icmp_ne 141 (dc_X13_is 63 rfl) rfl (fun c134 => ?_) (fun c134 => ?_)
        · refine S_iconst_ 0 (dc_X13_is 66 rfl) rfl ?_
          refine S_goto 159 (dc_X13_is 67 rfl) rfl ?_
          exact S_iret (dc_X13_is 75 rfl) hT rfl (fun q => by cases q; exact hr)
        · refine S_iconst_ 1 (dc_X13_is 64 rfl) rfl ?_
          refine S_goto 159 (dc_X13_is 65 rfl) rfl ?_
          exact S_iret (dc_X13_is 75 rfl) hT rfl (fun q => by cases q; exact hr)
    · refine S_iload (dc_X13_is 48 rfl) rfl ?_
      refine S_aload_n (dc_X13_is 49 rfl) rfl ?_
      refine S_getI (dc_X13_is 50 rfl) ho fl_X13_16_10_2 (fun _ _ => rfl) (fun x105 e105 => ?_)
      refine S_icmp_ge 115 (dc_X13_is 51 rfl) rfl (fun c108 => ?_) (fun c108 => ?_)
      · refine S_iconst_ 0 (dc_X13_is 54 rfl) rfl ?_
        refine S_goto 159 (dc_X13_is 55 rfl) rfl ?_
        exact S_iret (dc_X13_is 75 rfl) hT rfl (fun q => by cases q; exact hr)
      · refine S_iconst_ 1 (dc_X13_is 52 rfl) rfl ?_
        refine S_goto 159 (dc_X13_is 53 rfl) rfl ?_
        exact S_iret (dc_X13_is 75 rfl) hT rfl (fun q => by cases q; exact hr)
  · have hK1 : ∀ (s91_1 : Int32), Sx K cX13_is 91 [some (.ref a0), none, none, none, none] [.int s91_1] h (some s91_1) Q1 := hK1
    refine S_if_ne 27 (dc_X13_is 8 rfl) rfl (fun c14 => ?_) (fun c14 => ?_)
    · refine S_aload_n (dc_X13_is 13 rfl) rfl ?_
      refine S_getI (dc_X13_is 14 rfl) ho fl_X13_7_10_0 (fun _ _ => rfl) (fun x28 e28 => ?_)
      refine S_iconst_ 1 (dc_X13_is 15 rfl) rfl ?_
      refine S_icmp_ne 42 (dc_X13_is 16 rfl) rfl (fun c32 => ?_) (fun c32 => ?_)
      · refine S_aload_n (dc_X13_is 20 rfl) rfl ?_
        refine S_getI (dc_X13_is 21 rfl) ho fl_X13_7_10_0 (fun _ _ => rfl) (fun x43 e43 => ?_)
        refine S_iconst_ 2 (dc_X13_is 22 rfl) rfl ?_
        refine S_icmp_ne 57 (dc_X13_is 23 rfl) rfl (fun c47 => ?_) (fun c47 => ?_)
        · refine S_aload_n (dc_X13_is 27 rfl) rfl ?_
          refine S_getI (dc_X13_is 28 rfl) ho fl_X13_7_10_0 (fun _ _ => rfl) (fun x58 e58 => ?_)
          refine S_iconst_ 3 (dc_X13_is 29 rfl) rfl ?_
          refine S_icmp_ne 72 (dc_X13_is 30 rfl) rfl (fun c62 => ?_) (fun c62 => ?_)
          · refine S_aload_n (dc_X13_is 34 rfl) rfl ?_
            refine S_getI (dc_X13_is 35 rfl) ho fl_X13_7_10_0 (fun _ _ => rfl) (fun x73 e73 => ?_)
            refine S_iconst_ 4 (dc_X13_is 36 rfl) rfl ?_
            refine S_icmp_ne 87 (dc_X13_is 37 rfl) rfl (fun c77 => ?_) (fun c77 => ?_)
            · refine S_aload_n (dc_X13_is 41 rfl) rfl ?_
              refine Sx.ask (fun _ i88 => ?_)
              refine S_roI (d := k_d K - 1) (e_callV (b := x8) (As := []) (rest := []) ok_X8_bent rfl (Nat.le_of_ble_eq_true rfl) (dc_X13_is 42 rfl) ho q1363 q1364 (show e_cl[6]? = some (RX8, TX8, 4) from rfl) (e_sel.of q1365) (e_is_of i88) rfl (Nat.le_of_ble_eq_true rfl)) (by omega) (fun _ e => ct_X8_bent (by omega) e) (fun x88 e88 => ?_)
              refine Sx.cut [true, false, false, false, true] ?_
              exact hK1 x88
            · refine S_aload_n (dc_X13_is 38 rfl) rfl ?_
              refine Sx.ask (fun _ i81 => ?_)
              refine S_roI (d := k_d K - 1) (e_callV (b := x8) (As := []) (rest := []) ok_X8_right rfl (Nat.le_of_ble_eq_true rfl) (dc_X13_is 39 rfl) ho q1359 q1360 (show e_cl[6]? = some (RX8, TX8, 4) from rfl) (e_sel.of q1361) (e_is_of i81) rfl (Nat.le_of_ble_eq_true rfl)) (by omega) (fun _ e => ct_X8_right (by omega) e) (fun x81 e81 => ?_)
              refine S_goto 91 (dc_X13_is 40 rfl) rfl ?_
              refine Sx.cut [true, false, false, false, true] ?_
              exact hK1 x81
          · refine S_aload_n (dc_X13_is 31 rfl) rfl ?_
            refine S_getI (dc_X13_is 32 rfl) ho fl_X13_49_6_2 (fun _ _ => rfl) (fun x66 e66 => ?_)
            refine S_goto 91 (dc_X13_is 33 rfl) rfl ?_
            refine Sx.cut [true, false, false, false, true] ?_
            exact hK1 x66
        · refine S_aload_n (dc_X13_is 24 rfl) rfl ?_
          refine Sx.ask (fun _ i51 => ?_)
          refine S_roI (d := k_d K - 1) (e_callV (b := x8) (As := []) (rest := []) ok_X8_within rfl (Nat.le_of_ble_eq_true rfl) (dc_X13_is 25 rfl) ho q1358 q1131 (show e_cl[6]? = some (RX8, TX8, 4) from rfl) (e_sel.of q1132) (e_is_of i51) rfl (Nat.le_of_ble_eq_true rfl)) (by omega) (fun _ e => ct_X8_within (by omega) e) (fun x51 e51 => ?_)
          refine S_goto 91 (dc_X13_is 26 rfl) rfl ?_
          refine Sx.cut [true, false, false, false, true] ?_
          exact hK1 x51
      · refine S_aload_n (dc_X13_is 17 rfl) rfl ?_
        refine Sx.ask (fun _ i36 => ?_)
        refine S_roI (d := k_d K - 1) (e_callV (b := x8) (As := []) (rest := []) ok_X8_on rfl (Nat.le_of_ble_eq_true rfl) (dc_X13_is 18 rfl) ho q1357 q1123 (show e_cl[6]? = some (RX8, TX8, 4) from rfl) (e_sel.of q1124) (e_is_of i36) rfl (Nat.le_of_ble_eq_true rfl)) (by omega) (fun _ e => ct_X8_on (by omega) e) (fun x36 e36 => ?_)
        refine S_goto 91 (dc_X13_is 19 rfl) rfl ?_
        refine Sx.cut [true, false, false, false, true] ?_
        exact hK1 x36
    · refine S_aload_n (dc_X13_is 9 rfl) rfl ?_
      refine Sx.ask (fun _ i18 => ?_)
      refine S_roI (d := k_d K - 1) (e_callV (b := x8) (As := []) (rest := []) ok_X8_area rfl (Nat.le_of_ble_eq_true rfl) (dc_X13_is 10 rfl) ho q1355 q1119 (show e_cl[6]? = some (RX8, TX8, 4) from rfl) (e_sel.of q1120) (e_is_of i18) rfl (Nat.le_of_ble_eq_true rfl)) (by omega) (fun _ e => ct_X8_area (by omega) e) (fun x18 e18 => ?_)
      refine S_mabs (dc_X13_is 11 rfl) ho q1356 (by omega) (Nat.le_of_ble_eq_true rfl) ?_
      refine S_goto 91 (dc_X13_is 12 rfl) rfl ?_
      refine Sx.cut [true, false, false, false, true] ?_
      exact hK1 (if 0 ≤ x18 then x18 else 0 - x18)
abbrev cX6_init : ByteArray := prog_5_method_1_code
def yX6_init : MethodName := ⟨"PegBands$BoardReader", "<init>", "(LPegBands;)V"⟩
def tb_X6_init : List (Nat × Instr × Nat) := [(0, .aload_n 0, 1), (1, .aload_n 1, 1), (2, .putfield 3, 3), (5, .aload_n 0, 1), (6, .aload_n 1, 1), (7, .sipush 600, 3), (10, .invokespecial 9, 3), (13, .return_, 1)]
theorem tk_X6_init : ∀ q ∈ tb_X6_init, decode cX6_init q.1 = .ok q.2 := by decide +kernel
theorem dc_X6_init (k : Nat) {pc n : Nat} {i : Instr} (h : tb_X6_init[k]? = some (pc, i, n)) : decode cX6_init pc = .ok (i, n) := tk_X6_init (pc, i, n) (List.mem_of_getElem? h)
abbrev mX6_init : e_M := (yX6_init, cX6_init, 2, none, [])
theorem ok_X6_init : e_mok mX6_init 1 := ⟨q316, q115, by decide +kernel, fun sig h => by cases h; rfl⟩
theorem fl_X6_3_4_9 : e_FL "PegBands$BoardReader" 3 4 9 := ⟨_, rfl, by decide, Or.inl q322⟩
def f_X6_init (h : e_H) (a0 : Nat) (a1 : Nat) : Option e_H :=
  Option.bind (e_gR h a0 4 9 (some a1)) (fun h2 =>
  Option.bind (f_X5_init 4 h2 a0 a1 600) (fun h10 =>
  some h10))
set_option maxHeartbeats 4000000 in
set_option maxRecDepth 100000 in
theorem ct_X6_init {l : Launch} {D : e_D} {B : Heap} {d : Nat} {h : e_H} {a0 : Nat} {a1 : Nat} {h1 : e_H} (hd : 2 ≤ d) (e : f_X6_init h a0 a1 = some h1) : e_Run l D B d mX6_init [.ref a0, .ref a1] h (.ok none, h1) := by
  refine e_start [some (.ref a0), some (.ref a1)] (by decide) rfl rfl rfl (Nat.le_of_ble_eq_true rfl) (fun K hl0 hD0 hB0 hM hd0 hr => ?_)
  subst hl0 hD0 hB0 hd0
  have ho : (k_M K).1.cls = "PegBands$BoardReader" := by rw [hM]; rfl
  have hT : (k_M K).2.2.2.1 = none := by rw [hM]
  refine (show Sx K cX6_init 0 [some (.ref a0), some (.ref a1)] [] h (f_X6_init h a0 a1) (fun w => w = h1) from ?_) _ e rfl
  clear e
  unfold f_X6_init
  refine S_aload_n (dc_X6_init 0 rfl) rfl ?_
  refine S_aload_n (dc_X6_init 1 rfl) rfl ?_
  refine S_putR (v := (some a1)) (dc_X6_init 2 rfl) ho fl_X6_3_4_9 (fun _ _ => rfl) (Or.inr ⟨rfl, by rw [hM]; rfl, rfl⟩) rfl (fun h2 e2 => ?_)
  refine S_aload_n (dc_X6_init 3 rfl) rfl ?_
  refine S_aload_n (dc_X6_init 4 rfl) rfl ?_
  refine S_sipush_ 600 (dc_X6_init 5 rfl) rfl ?_
  refine S_rwV (d := k_d K - 1) (e_callI (b := a0) (As := [.ref a1, .int 600]) (rest := []) ok_X5_init rfl rfl rfl (Nat.le_of_ble_eq_true rfl) (dc_X6_init 6 rfl) ho q317 q318 rfl (Nat.le_of_ble_eq_true rfl)) (by omega) (fun _ e => ct_X5_init (by decide) (by omega) e) (fun h10 e10 => ?_)
  exact S_vret (dc_X6_init 7 rfl) hT (fun q => by cases q; exact hr)
abbrev cX6_out : ByteArray := prog_5_method_3_code
def yX6_out : MethodName := ⟨"PegBands$BoardReader", "out", "()V"⟩
def tb_X6_out : List (Nat × Instr × Nat) := [(0, .aload_n 0, 1), (1, .iconst 0, 1), (2, .aload_n 0, 1), (3, .getfield 15, 3), (6, .getfield 33, 3), (9, .iconst 1, 1), (10, .isub, 1), (11, .invokevirtual 29, 3), (14, .istore_n 1, 1), (15, .aload_n 0, 1), (16, .aload_n 0, 1), (17, .getfield 46, 3), (20, .iconst 2, 1), (21, .if_icmp .ne 7, 3), (24, .iconst 1, 1), (25, .goto 4, 3), (28, .iconst 0, 1), (29, .iconst 1, 1), (30, .invokevirtual 59, 3), (33, .aload_n 0, 1), (34, .aload_n 0, 1), (35, .getfield 79, 3), (38, .aload_n 0, 1), (39, .getfield 15, 3), (42, .getfield 39, 3), (45, .if_icmp .ge 7, 3), (48, .iconst 1, 1), (49, .goto 4, 3), (52, .iconst 0, 1), (53, .iconst 2, 1), (54, .invokevirtual 59, 3), (57, .aload_n 0, 1), (58, .aload_n 0, 1), (59, .getfield 15, 3), (62, .getfield 82, 3), (65, .bipush 10, 2), (67, .aload_n 0, 1), (68, .getfield 79, 3), (71, .imul, 1), (72, .iload_n 1, 1), (73, .iadd, 1), (74, .baload, 1), (75, .ifCond .ne 7, 3), (78, .iconst 1, 1), (79, .goto 4, 3), (82, .iconst 0, 1), (83, .iconst 3, 1), (84, .invokevirtual 59, 3), (87, .aload_n 0, 1), (88, .getfield 15, 3), (91, .getfield 82, 3), (94, .bipush 10, 2), (96, .aload_n 0, 1), (97, .getfield 79, 3), (100, .imul, 1), (101, .iload_n 1, 1), (102, .iadd, 1), (103, .iconst 1, 1), (104, .bastore, 1), (105, .aload_n 0, 1), (106, .getfield 15, 3), (109, .dup, 1), (110, .getfield 69, 3), (113, .iconst 1, 1), (114, .iadd, 1), (115, .putfield 69, 3), (118, .aload_n 0, 1), (119, .invokevirtual 72, 3), (122, .return_, 1)]
theorem tk_X6_out : ∀ q ∈ tb_X6_out, decode cX6_out q.1 = .ok q.2 := by decide +kernel
theorem dc_X6_out (k : Nat) {pc n : Nat} {i : Instr} (h : tb_X6_out[k]? = some (pc, i, n)) : decode cX6_out pc = .ok (i, n) := tk_X6_out (pc, i, n) (List.mem_of_getElem? h)
abbrev mX6_out : e_M := (yX6_out, cX6_out, 2, none, [])
theorem ok_X6_out : e_mok mX6_out 0 := ⟨q739, q115, by decide +kernel, fun sig h => by cases h; rfl⟩
theorem fl_X6_15_4_8 : e_FL "PegBands$BoardReader" 15 4 8 := ⟨_, rfl, by decide, Or.inl q321⟩
theorem fl_X6_33_2_2 : e_FL "PegBands$BoardReader" 33 2 2 := ⟨_, rfl, by decide, Or.inr (Or.inr (Or.inl ⟨_, q250⟩))⟩
theorem fl_X6_46_4_3 : e_FL "PegBands$BoardReader" 46 4 3 := ⟨_, rfl, by decide, Or.inr (Or.inl ⟨_, q328, q329⟩)⟩
theorem fl_X6_79_4_4 : e_FL "PegBands$BoardReader" 79 4 4 := ⟨_, rfl, by decide, Or.inr (Or.inl ⟨_, q333, q334⟩)⟩
theorem fl_X6_39_2_3 : e_FL "PegBands$BoardReader" 39 2 3 := ⟨_, rfl, by decide, Or.inr (Or.inr (Or.inl ⟨_, q253⟩))⟩
theorem fl_X6_82_2_1 : e_FL "PegBands$BoardReader" 82 2 1 := ⟨_, rfl, by decide, Or.inr (Or.inr (Or.inl ⟨_, q246⟩))⟩
theorem fl_X6_69_2_5 : e_FL "PegBands$BoardReader" 69 2 5 := ⟨_, rfl, by decide, Or.inr (Or.inr (Or.inl ⟨_, q261⟩))⟩
def f_X6_out (F : Nat) (h : e_H) (a0 : Nat) : Option (Except (Nat × Nat) Unit × e_H) :=
  Option.bind (e_fA h a0 4 8) (fun x3 =>
  Option.bind (e_fI h x3 2 2) (fun x6 =>
  e_b3 (f_X5_number F 4 h a0 0 (x6 - 1)) (fun z11 h11 =>
      some (.error z11, h11)) (fun x11 h11 =>
  Option.bind (e_fI h11 a0 4 3) (fun x17 =>
  Option.bind (
      if x17 = 2 then
        some 1
      else
        some 0
    : Option (Int32)) (fun s29_1 =>
  e_b3 (f_X5_must 4 h11 a0 s29_1 1) (fun z30 h30 =>
      some (.error z30, h30)) (fun _ h30 =>
  Option.bind (e_fI h30 a0 4 4) (fun x35 =>
  Option.bind (e_fA h30 a0 4 8) (fun x39 =>
  Option.bind (e_fI h30 x39 2 3) (fun x42 =>
  Option.bind (
      if x42 ≤ x35 then
        some 0
      else
        some 1
    : Option (Int32)) (fun s53_2 =>
  e_b3 (f_X5_must 4 h30 a0 s53_2 2) (fun z54 h54 =>
      some (.error z54, h54)) (fun _ h54 =>
  Option.bind (e_fA h54 a0 4 8) (fun x59 =>
  Option.bind (e_fA h54 x59 2 1) (fun x62 =>
  Option.bind (e_fI h54 a0 4 4) (fun x68 =>
  Option.bind (e_aI h54 x62 2 ((10 * x68) + x11)) (fun x74 =>
  Option.bind (
      if x74 = 0 then
        some 1
      else
        some 0
    : Option (Int32)) (fun s83_3 =>
  e_b3 (f_X5_must 4 h54 a0 s83_3 3) (fun z84 h84 =>
      some (.error z84, h84)) (fun _ h84 =>
  Option.bind (e_fA h84 a0 4 8) (fun x88 =>
  Option.bind (e_fA h84 x88 2 1) (fun x91 =>
  Option.bind (e_fI h84 a0 4 4) (fun x97 =>
  Option.bind (e_wI h84 x91 2 ((10 * x97) + x11) 1) (fun h104 =>
  Option.bind (e_fA h104 a0 4 8) (fun x106 =>
  Option.bind (e_fI h104 x106 2 5) (fun x110 =>
  Option.bind (e_gI h104 x106 2 5 (x110 + 1)) (fun h115 =>
  Option.bind (e_is h115 a0 4) (fun _ =>
  Option.bind (f_X5_next F 4 h115 a0) (fun h119 =>
  some (.ok (), h119)))))))))))))))))))))))))))
set_option maxHeartbeats 4000000 in
set_option maxRecDepth 100000 in
theorem ct_X6_out {l : Launch} {D : e_D} {B : Heap} {F : Nat} {d : Nat} {h : e_H} {a0 : Nat} {o : Except (Nat × Nat) Unit} {h1 : e_H} (hd : 6 ≤ d) (e : f_X6_out F h a0 = some (o, h1)) : e_Run l D B d mX6_out [.ref a0] h (o.map (fun _ => none), h1) := by
  refine e_start [some (.ref a0), none] (by decide) rfl rfl rfl (Nat.le_of_ble_eq_true rfl) (fun K hl0 hD0 hB0 hM hd0 hr => ?_)
  subst hl0 hD0 hB0 hd0
  have ho : (k_M K).1.cls = "PegBands$BoardReader" := by rw [hM]; rfl
  have hT : (k_M K).2.2.2.1 = none := by rw [hM]
  have hX : ∀ pc, ∀ z ∈ tableOf (k_M K).2.2.2.2, covers z pc = false := by rw [hM]; intro pc z hz; cases hz
  refine (show Sx K cX6_out 0 [some (.ref a0), none] [] h (f_X6_out F h a0) (fun w => w = (o, h1)) from ?_) _ e rfl
  clear e
  unfold f_X6_out
  refine S_aload_n (dc_X6_out 0 rfl) rfl ?_
  refine S_iconst_ 0 (dc_X6_out 1 rfl) rfl ?_
  refine S_aload_n (dc_X6_out 2 rfl) rfl ?_
  refine S_getA (dc_X6_out 3 rfl) ho fl_X6_15_4_8 (fun _ _ => rfl) (fun x3 e3 => ?_)
  refine S_getI (dc_X6_out 4 rfl) ho fl_X6_33_2_2 (fun _ _ => rfl) (fun x6 e6 => ?_)
  refine S_iconst_ 1 (dc_X6_out 5 rfl) rfl ?_
  refine S_isub (dc_X6_out 6 rfl) ?_
  refine S_exI (d := k_d K - 1) (e_callVU (b := a0) (x := ⟨"PegBands$BoardReader", "number", "(II)I"⟩) (owner := "PegBands$Reader") (As := [.int 0, .int (x6 - 1)]) (rest := []) ok_X5_number rfl (Nat.le_of_ble_eq_true rfl) (dc_X6_out 7 rfl) ho q702 q703 (Or.inr ⟨rfl, q706⟩) (by decide) q706 rfl (show e_cl[4]? = some (RX6, TX6, 10) from rfl) (e_sel.of q705) (e_fA_of e3).1 rfl (Nat.le_of_ble_eq_true rfl)) (by omega) (fun _ _ e => ct_X5_number (by decide) (by omega) e) (fun z11 h11 e11 => ?_) (fun x11 h11 e11 => ?_)
  · exact SxX.out (hX _) (fun q => by cases q; exact hr)
  refine S_istore_n (L' := [some (.ref a0), some (.int x11)]) (dc_X6_out 8 rfl) rfl ?_
  refine S_aload_n (dc_X6_out 9 rfl) rfl ?_
  refine S_aload_n (dc_X6_out 10 rfl) rfl ?_
  refine S_getI (dc_X6_out 11 rfl) ho fl_X6_46_4_3 (fun _ _ => rfl) (fun x17 e17 => ?_)
  refine S_iconst_ 2 (dc_X6_out 12 rfl) rfl ?_
  refine Sx.regK1 (pc2 := 29) (L2 := fun (s29_1 : Int32) => [some (.ref a0), some (.int x11)]) (st2 := fun (s29_1 : Int32) => [.int s29_1, .ref a0]) (h2 := fun (s29_1 : Int32) => h11) ?_ (fun Q1 hK1 => ?_)
  · intro s29_1
    show Sx K cX6_out 29 [some (.ref a0), some (.int x11)] [.int s29_1, .ref a0] h11 _ _
    refine S_iconst_ 1 (dc_X6_out 17 rfl) rfl ?_
    refine S_exV (d := k_d K - 1) (e_callVU (b := a0) (x := ⟨"PegBands$BoardReader", "must", "(ZI)V"⟩) (owner := "PegBands$Reader") (As := [.int s29_1, .int 1]) (rest := []) ok_X5_must rfl (Nat.le_of_ble_eq_true rfl) (dc_X6_out 18 rfl) ho q728 q729 (Or.inr ⟨rfl, q689⟩) (by decide) q689 rfl (show e_cl[4]? = some (RX6, TX6, 10) from rfl) (e_sel.of q731) (e_fI_of e17).1 rfl (Nat.le_of_ble_eq_true rfl)) (by omega) (fun _ _ e => ct_X5_must (by decide) (by omega) e) (fun z30 h30 e30 => ?_) (fun _ h30 e30 => ?_)
    · exact SxX.out (hX _) (fun q => by cases q; exact hr)
    refine S_aload_n (dc_X6_out 19 rfl) rfl ?_
    refine S_aload_n (dc_X6_out 20 rfl) rfl ?_
    refine S_getI (dc_X6_out 21 rfl) ho fl_X6_79_4_4 (fun _ _ => rfl) (fun x35 e35 => ?_)
    refine S_aload_n (dc_X6_out 22 rfl) rfl ?_
    refine S_getA (dc_X6_out 23 rfl) ho fl_X6_15_4_8 (fun _ _ => rfl) (fun x39 e39 => ?_)
    refine S_getI (dc_X6_out 24 rfl) ho fl_X6_39_2_3 (fun _ _ => rfl) (fun x42 e42 => ?_)
    refine Sx.regK1 (pc2 := 53) (L2 := fun (s53_2 : Int32) => [some (.ref a0), some (.int x11)]) (st2 := fun (s53_2 : Int32) => [.int s53_2, .ref a0]) (h2 := fun (s53_2 : Int32) => h30) ?_ (fun Q2 hK2 => ?_)
    · intro s53_2
      show Sx K cX6_out 53 [some (.ref a0), some (.int x11)] [.int s53_2, .ref a0] h30 _ _
      refine S_iconst_ 2 (dc_X6_out 29 rfl) rfl ?_
      refine S_exV (d := k_d K - 1) (e_callVU (b := a0) (x := ⟨"PegBands$BoardReader", "must", "(ZI)V"⟩) (owner := "PegBands$Reader") (As := [.int s53_2, .int 2]) (rest := []) ok_X5_must rfl (Nat.le_of_ble_eq_true rfl) (dc_X6_out 30 rfl) ho q728 q729 (Or.inr ⟨rfl, q689⟩) (by decide) q689 rfl (show e_cl[4]? = some (RX6, TX6, 10) from rfl) (e_sel.of q731) (e_fI_of e35).1 rfl (Nat.le_of_ble_eq_true rfl)) (by omega) (fun _ _ e => ct_X5_must (by decide) (by omega) e) (fun z54 h54 e54 => ?_) (fun _ h54 e54 => ?_)
      · exact SxX.out (hX _) (fun q => by cases q; exact hr)
      refine S_aload_n (dc_X6_out 31 rfl) rfl ?_
      refine S_aload_n (dc_X6_out 32 rfl) rfl ?_
      refine S_getA (dc_X6_out 33 rfl) ho fl_X6_15_4_8 (fun _ _ => rfl) (fun x59 e59 => ?_)
      refine S_getA (dc_X6_out 34 rfl) ho fl_X6_82_2_1 (fun _ _ => rfl) (fun x62 e62 => ?_)
      refine S_bipush_ 10 (dc_X6_out 35 rfl) rfl ?_
      refine S_aload_n (dc_X6_out 36 rfl) rfl ?_
      refine S_getI (dc_X6_out 37 rfl) ho fl_X6_79_4_4 (fun _ _ => rfl) (fun x68 e68 => ?_)
      refine S_imul (dc_X6_out 38 rfl) ?_
      refine S_iload_n (dc_X6_out 39 rfl) rfl ?_
      refine S_iadd (dc_X6_out 40 rfl) ?_
      refine S_zald (dc_X6_out 41 rfl) (fun x74 e74 => ?_)
      refine Sx.regK1 (pc2 := 83) (L2 := fun (s83_3 : Int32) => [some (.ref a0), some (.int x11)]) (st2 := fun (s83_3 : Int32) => [.int s83_3, .ref a0]) (h2 := fun (s83_3 : Int32) => h54) ?_ (fun Q3 hK3 => ?_)
      · intro s83_3
        show Sx K cX6_out 83 [some (.ref a0), some (.int x11)] [.int s83_3, .ref a0] h54 _ _
        refine S_iconst_ 3 (dc_X6_out 46 rfl) rfl ?_
        refine S_exV (d := k_d K - 1) (e_callVU (b := a0) (x := ⟨"PegBands$BoardReader", "must", "(ZI)V"⟩) (owner := "PegBands$Reader") (As := [.int s83_3, .int 3]) (rest := []) ok_X5_must rfl (Nat.le_of_ble_eq_true rfl) (dc_X6_out 47 rfl) ho q728 q729 (Or.inr ⟨rfl, q689⟩) (by decide) q689 rfl (show e_cl[4]? = some (RX6, TX6, 10) from rfl) (e_sel.of q731) (e_fA_of e59).1 rfl (Nat.le_of_ble_eq_true rfl)) (by omega) (fun _ _ e => ct_X5_must (by decide) (by omega) e) (fun z84 h84 e84 => ?_) (fun _ h84 e84 => ?_)
        · exact SxX.out (hX _) (fun q => by cases q; exact hr)
        refine S_aload_n (dc_X6_out 48 rfl) rfl ?_
        refine S_getA (dc_X6_out 49 rfl) ho fl_X6_15_4_8 (fun _ _ => rfl) (fun x88 e88 => ?_)
        refine S_getA (dc_X6_out 50 rfl) ho fl_X6_82_2_1 (fun _ _ => rfl) (fun x91 e91 => ?_)
        refine S_bipush_ 10 (dc_X6_out 51 rfl) rfl ?_
        refine S_aload_n (dc_X6_out 52 rfl) rfl ?_
        refine S_getI (dc_X6_out 53 rfl) ho fl_X6_79_4_4 (fun _ _ => rfl) (fun x97 e97 => ?_)
        refine S_imul (dc_X6_out 54 rfl) ?_
        refine S_iload_n (dc_X6_out 55 rfl) rfl ?_
        refine S_iadd (dc_X6_out 56 rfl) ?_
        refine S_iconst_ 1 (dc_X6_out 57 rfl) rfl ?_
        refine S_zast (dc_X6_out 58 rfl) rfl (fun h104 e104 => ?_)
        refine S_aload_n (dc_X6_out 59 rfl) rfl ?_
        refine S_getA (dc_X6_out 60 rfl) ho fl_X6_15_4_8 (fun _ _ => rfl) (fun x106 e106 => ?_)
        refine S_dup (dc_X6_out 61 rfl) rfl ?_
        refine S_getI (dc_X6_out 62 rfl) ho fl_X6_69_2_5 (fun _ _ => rfl) (fun x110 e110 => ?_)
        refine S_iconst_ 1 (dc_X6_out 63 rfl) rfl ?_
        refine S_iadd (dc_X6_out 64 rfl) ?_
        refine S_putI (dc_X6_out 65 rfl) ho fl_X6_69_2_5 (fun _ _ => rfl) (Or.inl rfl) rfl rfl (fun h115 e115 => ?_)
        refine S_aload_n (dc_X6_out 66 rfl) rfl ?_
        refine Sx.ask (fun _ i119 => ?_)
        refine S_rwV (d := k_d K - 1) (e_callVU (b := a0) (x := ⟨"PegBands$BoardReader", "next", "()V"⟩) (owner := "PegBands$Reader") (As := []) (rest := []) ok_X5_next rfl (Nat.le_of_ble_eq_true rfl) (dc_X6_out 67 rfl) ho q732 q733 (Or.inr ⟨rfl, q601⟩) (by decide) q601 rfl (show e_cl[4]? = some (RX6, TX6, 10) from rfl) (e_sel.of q735) (e_is_of i119) rfl (Nat.le_of_ble_eq_true rfl)) (by omega) (fun _ e => ct_X5_next (by decide) (by omega) e) (fun h119 e119 => ?_)
        exact S_vret (dc_X6_out 68 rfl) hT (fun q => by cases q; exact hr)
      · have hK3 : ∀ (s83_3 : Int32), Sx K cX6_out 83 [some (.ref a0), some (.int x11)] [.int s83_3, .ref a0] h54 (some s83_3) Q3 := hK3
        refine S_if_ne 82 (dc_X6_out 42 rfl) rfl (fun c75 => ?_) (fun c75 => ?_)
        · refine S_iconst_ 0 (dc_X6_out 45 rfl) rfl ?_
          exact hK3 0
        · refine S_iconst_ 1 (dc_X6_out 43 rfl) rfl ?_
          refine S_goto 83 (dc_X6_out 44 rfl) rfl ?_
          exact hK3 1
    · have hK2 : ∀ (s53_2 : Int32), Sx K cX6_out 53 [some (.ref a0), some (.int x11)] [.int s53_2, .ref a0] h30 (some s53_2) Q2 := hK2
      refine S_icmp_ge 52 (dc_X6_out 25 rfl) rfl (fun c45 => ?_) (fun c45 => ?_)
      · refine S_iconst_ 0 (dc_X6_out 28 rfl) rfl ?_
        exact hK2 0
      · refine S_iconst_ 1 (dc_X6_out 26 rfl) rfl ?_
        refine S_goto 53 (dc_X6_out 27 rfl) rfl ?_
        exact hK2 1
  · have hK1 : ∀ (s29_1 : Int32), Sx K cX6_out 29 [some (.ref a0), some (.int x11)] [.int s29_1, .ref a0] h11 (some s29_1) Q1 := hK1
    refine S_icmp_ne 28 (dc_X6_out 13 rfl) rfl (fun c21 => ?_) (fun c21 => ?_)
    · refine S_iconst_ 0 (dc_X6_out 16 rfl) rfl ?_
      exact hK1 0
    · refine S_iconst_ 1 (dc_X6_out 14 rfl) rfl ?_
      refine S_goto 29 (dc_X6_out 15 rfl) rfl ?_
      exact hK1 1
abbrev cX5_find : ByteArray := prog_15_method_10_code
def yX5_find : MethodName := ⟨"PegBands$Reader", "find", "([Ljava/lang/String;)I"⟩
def tb_X5_find : List (Nat × Instr × Nat) := [(0, .iconst 0, 1), (1, .istore_n 2, 1), (2, .iload_n 2, 1), (3, .aload_n 1, 1), (4, .arraylength, 1), (5, .if_icmp .ge 21, 3), (8, .aload_n 0, 1), (9, .aload_n 1, 1), (10, .iload_n 2, 1), (11, .aaload, 1), (12, .invokevirtual 76, 3), (15, .ifCond .eq 5, 3), (18, .iload_n 2, 1), (19, .ireturn, 1), (20, .iinc 2 1, 3), (23, .goto (-21), 3), (26, .iconst (-1), 1), (27, .ireturn, 1)]
theorem tk_X5_find : ∀ q ∈ tb_X5_find, decode cX5_find q.1 = .ok q.2 := by decide +kernel
theorem dc_X5_find (k : Nat) {pc n : Nat} {i : Instr} (h : tb_X5_find[k]? = some (pc, i, n)) : decode cX5_find pc = .ok (i, n) := tk_X5_find (pc, i, n) (List.mem_of_getElem? h)
abbrev mX5_find : e_M := (yX5_find, cX5_find, 3, some (.int), [])
theorem ok_X5_find : e_mok mX5_find 1 := ⟨q756, q114, by decide +kernel, fun sig h => by cases h; rfl⟩
def lp_X5_find_2 (F : Nat) (A : Nat → Nat) (c : Nat) (h : e_H) (a0 : Nat) (a1 : Nat) : Nat → Int32 → Option (Except Int32 Unit)
  | 0, _ => none
  | n + 1, x2_2 =>
    Option.bind (e_len h a1 6) (fun l4 =>
    if (nI l4) ≤ x2_2 then
      some (.ok ())
    else
      Option.bind (e_aA h a1 6 x2_2) (fun x11 =>
      Option.bind (e_is h a0 c) (fun _ =>
      Option.bind (f_X5_is F A c h a0 x11) (fun x12 =>
      if x12 = 0 then
        Option.bind (some (x2_2 + 1)) (fun x20 =>
        lp_X5_find_2 F A c h a0 a1 n x20)
      else
        some (.error x2_2)))))
def f_X5_find (F : Nat) (A : Nat → Nat) (c : Nat) (h : e_H) (a0 : Nat) (a1 : Nat) : Option Int32 :=
  e_bE (
      lp_X5_find_2 F A c h a0 a1 F 0
    : Option (Except Int32 Unit)) (fun _ =>
  some (-1))
set_option maxHeartbeats 4000000 in
set_option maxRecDepth 100000 in
theorem ct_X5_find {l : Launch} {D : e_D} {B : Heap} {F : Nat} {A : Nat → Nat} {c : Nat} {d : Nat} {h : e_H} {a0 : Nat} {a1 : Nat} {v : Int32} (hc : c = 4 ∨ c = 5 ∨ c = 7) (hA : D.2.2.1 = A) (hd : 7 ≤ d) (e : f_X5_find F A c h a0 a1 = some v) : e_Run l D B d mX5_find [.ref a0, .ref a1] h (.ok (some (.int v)), h) := by
  refine e_start [some (.ref a0), some (.ref a1), none] (by decide) rfl rfl rfl (Nat.le_of_ble_eq_true rfl) (fun K hl0 hD0 hB0 hM hd0 hr => ?_)
  subst hl0 hD0 hB0 hd0
  have ho : (k_M K).1.cls = "PegBands$Reader" := by rw [hM]; rfl
  have hT : (k_M K).2.2.2.1 = some (.int) := by rw [hM]
  refine (show Sx K cX5_find 0 [some (.ref a0), some (.ref a1), none] [] h (f_X5_find F A c h a0 a1) (fun w => w = v) from ?_) _ e rfl
  clear e
  unfold f_X5_find
  refine S_iconst_ 0 (dc_X5_find 0 rfl) rfl ?_
  refine S_istore_n (L' := [some (.ref a0), some (.ref a1), some (.int 0)]) (dc_X5_find 1 rfl) rfl ?_
  refine Sx.regKE0 (pc2 := 26) (L2 := [none, none, none]) (st2 := []) (h2 := h) ?_ (fun Q1 hK1 hE1 => ?_)
  · skip
    refine S_iconst_ (-1) (dc_X5_find 16 rfl) rfl ?_
    exact S_iret (dc_X5_find 17 rfl) hT rfl (fun q => by cases q; exact hr)
  · have hK1 : Sx K cX5_find 26 [none, none, none] [] h (some (.ok ())) Q1 := hK1
    have ih1 : ∀ (n : Nat) (x2_2 : Int32), Sx K cX5_find 2 [some (.ref a0), some (.ref a1), some (.int x2_2)] [] h (lp_X5_find_2 F A c h a0 a1 n x2_2) Q1 := by
      intro n
      induction n with
      | zero => intro x2_2; exact Sx.none
      | succ n ih1 =>
        intro x2_2
        rw [lp_X5_find_2.eq_2]
        refine S_iload_n (dc_X5_find 2 rfl) rfl ?_
        refine S_aload_n (dc_X5_find 3 rfl) rfl ?_
        refine S_alen (t := 6) (dc_X5_find 4 rfl) (fun l4 e4 => ?_)
        refine S_icmp_ge 26 (dc_X5_find 5 rfl) rfl (fun c5 => ?_) (fun c5 => ?_)
        · refine Sx.cut [false, false, false] ?_
          exact hK1
        · refine S_aload_n (dc_X5_find 6 rfl) rfl ?_
          refine S_aload_n (dc_X5_find 7 rfl) rfl ?_
          refine S_iload_n (dc_X5_find 8 rfl) rfl ?_
          refine S_aaldA6 (dc_X5_find 9 rfl) (fun x11 e11 => ?_)
          refine Sx.ask (fun _ i12 => ?_)
          obtain ⟨qq12, hq12, hs12⟩ := rs_X5_is hc
          refine S_roI (d := k_d K - 1) (e_callV (b := a0) (As := [.ref x11]) (rest := []) ok_X5_is rfl (Nat.le_of_ble_eq_true rfl) (dc_X5_find 10 rfl) ho q633 q634 hq12 hs12 (e_is_of i12) rfl (Nat.le_of_ble_eq_true rfl)) (by omega) (fun _ e => ct_X5_is hc hA (by omega) e) (fun x12 e12 => ?_)
          refine S_if_eq 20 (dc_X5_find 11 rfl) rfl (fun c15 => ?_) (fun c15 => ?_)
          · refine S_iincN 1 (L' := fun x20 => [some (.ref a0), some (.ref a1), some (.int x20)]) (dc_X5_find 14 rfl) rfl rfl (fun _ => rfl) (fun x20 n20 => ?_)
            refine S_goto 2 (dc_X5_find 15 rfl) rfl ?_
            exact ih1 x20
          · refine S_iload_n (dc_X5_find 12 rfl) rfl ?_
            refine Sx.err hE1 ?_
            exact S_iret (dc_X5_find 13 rfl) hT rfl (fun q => by cases q; exact hr)
    exact ih1 F 0
abbrev cX5_isName : ByteArray := prog_15_method_11_code
def yX5_isName : MethodName := ⟨"PegBands$Reader", "isName", "()Z"⟩
def tb_X5_isName : List (Nat × Instr × Nat) := [(0, .aload_n 0, 1), (1, .getfield 43, 3), (4, .iconst 1, 1), (5, .if_icmp .ne 22, 3), (8, .aload_n 0, 1), (9, .aload_n 0, 1), (10, .getfield 3, 3), (13, .getfield 80, 3), (16, .invokevirtual 84, 3), (19, .iconst (-1), 1), (20, .if_icmp .ne 7, 3), (23, .iconst 1, 1), (24, .goto 4, 3), (27, .iconst 0, 1), (28, .ireturn, 1)]
theorem tk_X5_isName : ∀ q ∈ tb_X5_isName, decode cX5_isName q.1 = .ok q.2 := by decide +kernel
theorem dc_X5_isName (k : Nat) {pc n : Nat} {i : Instr} (h : tb_X5_isName[k]? = some (pc, i, n)) : decode cX5_isName pc = .ok (i, n) := tk_X5_isName (pc, i, n) (List.mem_of_getElem? h)
abbrev mX5_isName : e_M := (yX5_isName, cX5_isName, 1, some (.boolean), [])
theorem ok_X5_isName : e_mok mX5_isName 0 := ⟨q749, q114, by decide +kernel, fun sig h => by cases h; rfl⟩
theorem fl_X5_80_0_5 : e_FL "PegBands$Reader" 80 0 5 := ⟨_, rfl, by decide, Or.inr (Or.inr (Or.inl ⟨_, q458⟩))⟩
theorem rs_X5_find {c : Nat} (hc : c = 4 ∨ c = 5 ∨ c = 7) : ∃ q : vw_C, e_cl[c]? = some q ∧ e_sel q.1 yX5_find yX5_find := by
  rcases hc with rfl | rfl | rfl
  · exact ⟨_, rfl, e_sel.of q753⟩
  · exact ⟨_, rfl, e_sel.of q754⟩
  · exact ⟨_, rfl, e_sel.of q755⟩
def f_X5_isName (F : Nat) (A : Nat → Nat) (c : Nat) (h : e_H) (a0 : Nat) : Option Int32 :=
  Option.bind (e_fI h a0 c 3) (fun x1 =>
  if x1 = 1 then
    Option.bind (e_fA h a0 c 7) (fun x10 =>
    Option.bind (e_fA h x10 0 5) (fun x13 =>
    Option.bind (f_X5_find F A c h a0 x13) (fun x16 =>
    if x16 = (-1) then
      some 1
    else
      some 0)))
  else
    some 0)
set_option maxHeartbeats 4000000 in
set_option maxRecDepth 100000 in
theorem ct_X5_isName {l : Launch} {D : e_D} {B : Heap} {F : Nat} {A : Nat → Nat} {c : Nat} {d : Nat} {h : e_H} {a0 : Nat} {v : Int32} (hc : c = 4 ∨ c = 5 ∨ c = 7) (hA : D.2.2.1 = A) (hd : 8 ≤ d) (e : f_X5_isName F A c h a0 = some v) : e_Run l D B d mX5_isName [.ref a0] h (.ok (some (.int v)), h) := by
  refine e_start [some (.ref a0)] (by decide) rfl rfl rfl (Nat.le_of_ble_eq_true rfl) (fun K hl0 hD0 hB0 hM hd0 hr => ?_)
  subst hl0 hD0 hB0 hd0
  have ho : (k_M K).1.cls = "PegBands$Reader" := by rw [hM]; rfl
  have hT : (k_M K).2.2.2.1 = some (.boolean) := by rw [hM]
  refine (show Sx K cX5_isName 0 [some (.ref a0)] [] h (f_X5_isName F A c h a0) (fun w => w = v) from ?_) _ e rfl
  clear e
  unfold f_X5_isName
  refine S_aload_n (dc_X5_isName 0 rfl) rfl ?_
  refine S_getI (dc_X5_isName 1 rfl) ho (fl_X5_43 hc).1 (fl_X5_43 hc).2.1 (fun x1 e1 => ?_)
  refine S_iconst_ 1 (dc_X5_isName 2 rfl) rfl ?_
  refine S_icmp_ne 27 (dc_X5_isName 3 rfl) rfl (fun c5 => ?_) (fun c5 => ?_)
  · refine S_iconst_ 0 (dc_X5_isName 13 rfl) rfl ?_
    exact S_iret (dc_X5_isName 14 rfl) hT rfl (fun q => by cases q; exact hr)
  · refine S_aload_n (dc_X5_isName 4 rfl) rfl ?_
    refine S_aload_n (dc_X5_isName 5 rfl) rfl ?_
    refine S_getA (dc_X5_isName 6 rfl) ho (fl_X5_3 hc).1 (fl_X5_3 hc).2.1 (fun x10 e10 => ?_)
    refine S_getA (dc_X5_isName 7 rfl) ho fl_X5_80_0_5 (fun _ _ => rfl) (fun x13 e13 => ?_)
    obtain ⟨qq16, hq16, hs16⟩ := rs_X5_find hc
    refine S_roI (d := k_d K - 1) (e_callV (b := a0) (As := [.ref x13]) (rest := []) ok_X5_find rfl (Nat.le_of_ble_eq_true rfl) (dc_X5_isName 8 rfl) ho q750 q751 hq16 hs16 (e_fI_of e1).1 rfl (Nat.le_of_ble_eq_true rfl)) (by omega) (fun _ e => ct_X5_find hc hA (by omega) e) (fun x16 e16 => ?_)
    refine S_iconst_ (-1) (dc_X5_isName 9 rfl) rfl ?_
    refine S_icmp_ne 27 (dc_X5_isName 10 rfl) rfl (fun c20 => ?_) (fun c20 => ?_)
    · refine S_iconst_ 0 (dc_X5_isName 13 rfl) rfl ?_
      exact S_iret (dc_X5_isName 14 rfl) hT rfl (fun q => by cases q; exact hr)
    · refine S_iconst_ 1 (dc_X5_isName 11 rfl) rfl ?_
      refine S_goto 28 (dc_X5_isName 12 rfl) rfl ?_
      exact S_iret (dc_X5_isName 14 rfl) hT rfl (fun q => by cases q; exact hr)
