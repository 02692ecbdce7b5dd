/-! printed by gen/gen.py -/
set_option maxRecDepth 100000
abbrev cX10_undo : ByteArray := prog_18_method_86_code
def yX10_undo : MethodName := ⟨"PegBandsModel", "undo", "()I"⟩
def tb_X10_undo : List (Nat × Instr × Nat) := [(0, .aload_n 0, 1), (1, .iconst 0, 1), (2, .putfield 94, 3), (5, .aload_n 0, 1), (6, .getfield 273, 3), (9, .ifCond .ne 5, 3), (12, .iconst (-1), 1), (13, .ireturn, 1), (14, .aload_n 0, 1), (15, .dup, 1), (16, .getfield 273, 3), (19, .iconst 1, 1), (20, .isub, 1), (21, .putfield 273, 3), (24, .iconst 0, 1), (25, .istore_n 1, 1), (26, .iload_n 1, 1), (27, .sipush 241, 3), (30, .if_icmp .ge 30, 3), (33, .aload_n 0, 1), (34, .getfield 13, 3), (37, .iload_n 1, 1), (38, .aload_n 0, 1), (39, .getfield 25, 3), (42, .sipush 241, 3), (45, .aload_n 0, 1), (46, .getfield 273, 3), (49, .imul, 1), (50, .iload_n 1, 1), (51, .iadd, 1), (52, .iaload, 1), (53, .iastore, 1), (54, .iinc 1 1, 3), (57, .goto (-31), 3), (60, .iconst 0, 1), (61, .istore_n 1, 1), (62, .iload_n 1, 1), (63, .bipush 8, 2), (65, .if_icmp .ge 29, 3), (68, .aload_n 0, 1), (69, .getfield 28, 3), (72, .iload_n 1, 1), (73, .aload_n 0, 1), (74, .getfield 35, 3), (77, .bipush 8, 2), (79, .aload_n 0, 1), (80, .getfield 273, 3), (83, .imul, 1), (84, .iload_n 1, 1), (85, .iadd, 1), (86, .laload, 1), (87, .lastore, 1), (88, .iinc 1 1, 3), (91, .goto (-29), 3), (94, .aload_n 0, 1), (95, .getfield 273, 3), (98, .ireturn, 1)]
theorem tk_X10_undo : ∀ q ∈ tb_X10_undo, decode cX10_undo q.1 = .ok q.2 := by decide +kernel
theorem dc_X10_undo (k : Nat) {pc n : Nat} {i : Instr} (h : tb_X10_undo[k]? = some (pc, i, n)) : decode cX10_undo pc = .ok (i, n) := tk_X10_undo (pc, i, n) (List.mem_of_getElem? h)
abbrev mX10_undo : e_M := (yX10_undo, cX10_undo, 2, some (.int), [])
theorem ok_X10_undo : e_mok mX10_undo 0 := ⟨q1935, q119, by decide +kernel, fun sig h => by cases h; rfl⟩
def lp_X10_undo_26 (F : Nat) (a0 : Nat) : Nat → Int32 → e_H → Option (e_H)
  | 0, _, _ => none
  | n + 1, x1_26, h_26 =>
    if 241 ≤ x1_26 then
      some h_26
    else
      Option.bind (e_fA h_26 a0 8 15) (fun x34 =>
      Option.bind (e_fA h_26 a0 8 19) (fun x39 =>
      Option.bind (e_fI h_26 a0 8 27) (fun x46 =>
      Option.bind (e_aI h_26 x39 0 ((241 * x46) + x1_26)) (fun x52 =>
      Option.bind (e_wI h_26 x34 0 x1_26 x52) (fun h53 =>
      Option.bind (some (x1_26 + 1)) (fun x54 =>
      lp_X10_undo_26 F a0 n x54 h53))))))
def lp_X10_undo_62 (F : Nat) (a0 : Nat) : Nat → Int32 → e_H → Option (e_H)
  | 0, _, _ => none
  | n + 1, x1_62, h_62 =>
    if 8 ≤ x1_62 then
      some h_62
    else
      Option.bind (e_fA h_62 a0 8 20) (fun x69 =>
      Option.bind (e_fA h_62 a0 8 22) (fun x74 =>
      Option.bind (e_fI h_62 a0 8 27) (fun x80 =>
      Option.bind (e_aJ h_62 x74 3 ((8 * x80) + x1_62)) (fun x86 =>
      Option.bind (e_wJ h_62 x69 3 x1_62 x86) (fun h87 =>
      Option.bind (some (x1_62 + 1)) (fun x88 =>
      lp_X10_undo_62 F a0 n x88 h87))))))
def f_X10_undo (F : Nat) (h : e_H) (a0 : Nat) : Option (Int32 × e_H) :=
  Option.bind (e_gI h a0 8 0 0) (fun h2 =>
  Option.bind (e_fI h2 a0 8 27) (fun x6 =>
  if x6 = 0 then
    some ((-1), h2)
  else
    Option.bind (e_fI h2 a0 8 27) (fun x16 =>
    Option.bind (e_gI h2 a0 8 27 (x16 - 1)) (fun h21 =>
    Option.bind (
        lp_X10_undo_26 F a0 F 0 h21
      : Option (e_H)) (fun h60_1 =>
    Option.bind (
        lp_X10_undo_62 F a0 F 0 h60_1
      : Option (e_H)) (fun h94_2 =>
    Option.bind (e_fI h94_2 a0 8 27) (fun x95 =>
    some (x95, h94_2))))))))
set_option maxHeartbeats 4000000 in
set_option maxRecDepth 100000 in
theorem ct_X10_undo {l : Launch} {D : e_D} {B : Heap} {F : Nat} {d : Nat} {h : e_H} {a0 : Nat} {v : Int32} {h1 : e_H} (hd : 1 ≤ d) (e : f_X10_undo F h a0 = some (v, h1)) : e_Run l D B d mX10_undo [.ref a0] h (.ok (some (.int v)), h1) := by
  refine e_start [some (.ref a0), none] (by decide) rfl rfl rfl (Nat.le_of_ble_eq_true rfl) (fun K hl0 hD0 hB0 hM hd0 hr => ?_)
  subst hl0 hD0 hB0 hd0
  have ho : (k_M K).1.cls = "PegBandsModel" := by rw [hM]; rfl
  have hT : (k_M K).2.2.2.1 = some (.int) := by rw [hM]
  refine (show Sx K cX10_undo 0 [some (.ref a0), none] [] h (f_X10_undo F h a0) (fun w => w = (v, h1)) from ?_) _ e rfl
  clear e
  unfold f_X10_undo
  refine S_aload_n (dc_X10_undo 0 rfl) rfl ?_
  refine S_iconst_ 0 (dc_X10_undo 1 rfl) rfl ?_
  refine S_putI (dc_X10_undo 2 rfl) ho fl_X10_94_8_0 (fun _ _ => rfl) (Or.inl rfl) rfl rfl (fun h2 e2 => ?_)
  refine S_aload_n (dc_X10_undo 3 rfl) rfl ?_
  refine S_getI (dc_X10_undo 4 rfl) ho fl_X10_273_8_27 (fun _ _ => rfl) (fun x6 e6 => ?_)
  refine S_if_ne 14 (dc_X10_undo 5 rfl) rfl (fun c9 => ?_) (fun c9 => ?_)
  · refine S_aload_n (dc_X10_undo 8 rfl) rfl ?_
    refine S_dup (dc_X10_undo 9 rfl) rfl ?_
    refine S_getI (dc_X10_undo 10 rfl) ho fl_X10_273_8_27 (fun _ _ => rfl) (fun x16 e16 => ?_)
    refine S_iconst_ 1 (dc_X10_undo 11 rfl) rfl ?_
    refine S_isub (dc_X10_undo 12 rfl) ?_
    refine S_putI (dc_X10_undo 13 rfl) ho fl_X10_273_8_27 (fun _ _ => rfl) (Or.inl rfl) rfl rfl (fun h21 e21 => ?_)
    refine S_iconst_ 0 (dc_X10_undo 14 rfl) rfl ?_
    refine S_istore_n (L' := [some (.ref a0), some (.int 0)]) (dc_X10_undo 15 rfl) rfl ?_
    refine Sx.regK1 (pc2 := 60) (L2 := fun (h60_1 : e_H) => [some (.ref a0), none]) (st2 := fun (h60_1 : e_H) => []) (h2 := fun (h60_1 : e_H) => h60_1) ?_ (fun Q1 hK1 => ?_)
    · intro h60_1
      show Sx K cX10_undo 60 [some (.ref a0), none] [] h60_1 _ _
      refine S_iconst_ 0 (dc_X10_undo 34 rfl) rfl ?_
      refine S_istore_n (L' := [some (.ref a0), some (.int 0)]) (dc_X10_undo 35 rfl) rfl ?_
      refine Sx.regK1 (pc2 := 94) (L2 := fun (h94_2 : e_H) => [some (.ref a0), none]) (st2 := fun (h94_2 : e_H) => []) (h2 := fun (h94_2 : e_H) => h94_2) ?_ (fun Q2 hK2 => ?_)
      · intro h94_2
        show Sx K cX10_undo 94 [some (.ref a0), none] [] h94_2 _ _
        refine S_aload_n (dc_X10_undo 54 rfl) rfl ?_
        refine S_getI (dc_X10_undo 55 rfl) ho fl_X10_273_8_27 (fun _ _ => rfl) (fun x95 e95 => ?_)
        exact S_iret (dc_X10_undo 56 rfl) hT rfl (e_rqI hr)
      · have hK2 : ∀ (h94_2 : e_H), Sx K cX10_undo 94 [some (.ref a0), none] [] h94_2 (some h94_2) Q2 := hK2
        have ih2 : ∀ (n : Nat) (x1_62 : Int32) (h_62 : e_H), Sx K cX10_undo 62 [some (.ref a0), some (.int x1_62)] [] h_62 (lp_X10_undo_62 F a0 n x1_62 h_62) Q2 := by
          intro n
          induction n with
          | zero => intro x1_62 h_62; exact Sx.none
          | succ n ih2 =>
            intro x1_62 h_62
            rw [lp_X10_undo_62.eq_2]
            refine S_iload_n (dc_X10_undo 36 rfl) rfl ?_
            refine S_bipush_ 8 (dc_X10_undo 37 rfl) rfl ?_
            refine S_icmp_ge 94 (dc_X10_undo 38 rfl) rfl (fun c65 => ?_) (fun c65 => ?_)
            · refine Sx.cut [true, false] ?_
              exact hK2 h_62
            · refine S_aload_n (dc_X10_undo 39 rfl) rfl ?_
              refine S_getA (dc_X10_undo 40 rfl) ho fl_X10_28_8_20 (fun _ _ => rfl) (fun x69 e69 => ?_)
              refine S_iload_n (dc_X10_undo 41 rfl) rfl ?_
              refine S_aload_n (dc_X10_undo 42 rfl) rfl ?_
              refine S_getA (dc_X10_undo 43 rfl) ho fl_X10_35_8_22 (fun _ _ => rfl) (fun x74 e74 => ?_)
              refine S_bipush_ 8 (dc_X10_undo 44 rfl) rfl ?_
              refine S_aload_n (dc_X10_undo 45 rfl) rfl ?_
              refine S_getI (dc_X10_undo 46 rfl) ho fl_X10_273_8_27 (fun _ _ => rfl) (fun x80 e80 => ?_)
              refine S_imul (dc_X10_undo 47 rfl) ?_
              refine S_iload_n (dc_X10_undo 48 rfl) rfl ?_
              refine S_iadd (dc_X10_undo 49 rfl) ?_
              refine S_lald (dc_X10_undo 50 rfl) (fun x86 e86 => ?_)
              refine S_last (dc_X10_undo 51 rfl) (fun h87 e87 => ?_)
              refine S_iincN 1 (L' := fun x88 => [some (.ref a0), some (.int x88)]) (dc_X10_undo 52 rfl) rfl rfl (fun _ => rfl) (fun x88 n88 => ?_)
              refine S_goto 62 (dc_X10_undo 53 rfl) rfl ?_
              exact ih2 x88 h87
        exact ih2 F 0 h60_1
    · have hK1 : ∀ (h60_1 : e_H), Sx K cX10_undo 60 [some (.ref a0), none] [] h60_1 (some h60_1) Q1 := hK1
      have ih1 : ∀ (n : Nat) (x1_26 : Int32) (h_26 : e_H), Sx K cX10_undo 26 [some (.ref a0), some (.int x1_26)] [] h_26 (lp_X10_undo_26 F a0 n x1_26 h_26) Q1 := by
        intro n
        induction n with
        | zero => intro x1_26 h_26; exact Sx.none
        | succ n ih1 =>
          intro x1_26 h_26
          rw [lp_X10_undo_26.eq_2]
          refine S_iload_n (dc_X10_undo 16 rfl) rfl ?_
          refine S_sipush_ 241 (dc_X10_undo 17 rfl) rfl ?_
          refine S_icmp_ge 60 (dc_X10_undo 18 rfl) rfl (fun c30 => ?_) (fun c30 => ?_)
          · refine Sx.cut [true, false] ?_
            exact hK1 h_26
          · refine S_aload_n (dc_X10_undo 19 rfl) rfl ?_
            refine S_getA (dc_X10_undo 20 rfl) ho fl_X10_13_8_15 (fun _ _ => rfl) (fun x34 e34 => ?_)
            refine S_iload_n (dc_X10_undo 21 rfl) rfl ?_
            refine S_aload_n (dc_X10_undo 22 rfl) rfl ?_
            refine S_getA (dc_X10_undo 23 rfl) ho fl_X10_25_8_19 (fun _ _ => rfl) (fun x39 e39 => ?_)
            refine S_sipush_ 241 (dc_X10_undo 24 rfl) rfl ?_
            refine S_aload_n (dc_X10_undo 25 rfl) rfl ?_
            refine S_getI (dc_X10_undo 26 rfl) ho fl_X10_273_8_27 (fun _ _ => rfl) (fun x46 e46 => ?_)
            refine S_imul (dc_X10_undo 27 rfl) ?_
            refine S_iload_n (dc_X10_undo 28 rfl) rfl ?_
            refine S_iadd (dc_X10_undo 29 rfl) ?_
            refine S_iald (dc_X10_undo 30 rfl) (fun x52 e52 => ?_)
            refine S_iast (dc_X10_undo 31 rfl) (fun h53 e53 => ?_)
            refine S_iincN 1 (L' := fun x54 => [some (.ref a0), some (.int x54)]) (dc_X10_undo 32 rfl) rfl rfl (fun _ => rfl) (fun x54 n54 => ?_)
            refine S_goto 26 (dc_X10_undo 33 rfl) rfl ?_
            exact ih1 x54 h53
      exact ih1 F 0 h21
  · refine S_iconst_ (-1) (dc_X10_undo 6 rfl) rfl ?_
    exact S_iret (dc_X10_undo 7 rfl) hT rfl (e_rqI hr)
abbrev cX10_layRead : ByteArray := prog_18_method_88_code
def yX10_layRead : MethodName := ⟨"PegBandsModel", "layRead", "()V"⟩
def tb_X10_layRead : List (Nat × Instr × Nat) := [(0, .iconst 0, 1), (1, .istore_n 1, 1), (2, .iload_n 1, 1), (3, .sipush 241, 3), (6, .if_icmp .ge 21, 3), (9, .aload_n 0, 1), (10, .getfield 16, 3), (13, .iload_n 1, 1), (14, .aload_n 0, 1), (15, .getfield 13, 3), (18, .iload_n 1, 1), (19, .iaload, 1), (20, .iastore, 1), (21, .iinc 1 1, 3), (24, .goto (-22), 3), (27, .return_, 1)]
theorem tk_X10_layRead : ∀ q ∈ tb_X10_layRead, decode cX10_layRead q.1 = .ok q.2 := by decide +kernel
theorem dc_X10_layRead (k : Nat) {pc n : Nat} {i : Instr} (h : tb_X10_layRead[k]? = some (pc, i, n)) : decode cX10_layRead pc = .ok (i, n) := tk_X10_layRead (pc, i, n) (List.mem_of_getElem? h)
abbrev mX10_layRead : e_M := (yX10_layRead, cX10_layRead, 2, none, [])
theorem ok_X10_layRead : e_mok mX10_layRead 0 := ⟨q1943, q119, by decide +kernel, fun sig h => by cases h; rfl⟩
def lp_X10_layRead_2 (F : Nat) (a0 : Nat) : Nat → Int32 → e_H → Option (e_H)
  | 0, _, _ => none
  | n + 1, x1_2, h_2 =>
    if 241 ≤ x1_2 then
      some h_2
    else
      Option.bind (e_fA h_2 a0 8 16) (fun x10 =>
      Option.bind (e_fA h_2 a0 8 15) (fun x15 =>
      Option.bind (e_aI h_2 x15 0 x1_2) (fun x19 =>
      Option.bind (e_wI h_2 x10 0 x1_2 x19) (fun h20 =>
      Option.bind (some (x1_2 + 1)) (fun x21 =>
      lp_X10_layRead_2 F a0 n x21 h20)))))
def f_X10_layRead (F : Nat) (h : e_H) (a0 : Nat) : Option e_H :=
  Option.bind (
      lp_X10_layRead_2 F a0 F 0 h
    : Option (e_H)) (fun h27_1 =>
  some h27_1)
set_option maxHeartbeats 4000000 in
set_option maxRecDepth 100000 in
theorem ct_X10_layRead {l : Launch} {D : e_D} {B : Heap} {F : Nat} {d : Nat} {h : e_H} {a0 : Nat} {h1 : e_H} (hd : 1 ≤ d) (e : f_X10_layRead F h a0 = some h1) : e_Run l D B d mX10_layRead [.ref a0] h (.ok none, h1) := by
  refine e_start [some (.ref a0), none] (by decide) rfl rfl rfl (Nat.le_of_ble_eq_true rfl) (fun K hl0 hD0 hB0 hM hd0 hr => ?_)
  subst hl0 hD0 hB0 hd0
  have ho : (k_M K).1.cls = "PegBandsModel" := by rw [hM]; rfl
  have hT : (k_M K).2.2.2.1 = none := by rw [hM]
  refine (show Sx K cX10_layRead 0 [some (.ref a0), none] [] h (f_X10_layRead F h a0) (fun w => w = h1) from ?_) _ e rfl
  clear e
  unfold f_X10_layRead
  refine S_iconst_ 0 (dc_X10_layRead 0 rfl) rfl ?_
  refine S_istore_n (L' := [some (.ref a0), some (.int 0)]) (dc_X10_layRead 1 rfl) rfl ?_
  refine Sx.regK1 (pc2 := 27) (L2 := fun (h27_1 : e_H) => [none, none]) (st2 := fun (h27_1 : e_H) => []) (h2 := fun (h27_1 : e_H) => h27_1) ?_ (fun Q1 hK1 => ?_)
  · intro h27_1
    show Sx K cX10_layRead 27 [none, none] [] h27_1 _ _
    exact S_vret (dc_X10_layRead 15 rfl) hT (fun q => by cases q; exact hr)
  · have hK1 : ∀ (h27_1 : e_H), Sx K cX10_layRead 27 [none, none] [] h27_1 (some h27_1) Q1 := hK1
    have ih1 : ∀ (n : Nat) (x1_2 : Int32) (h_2 : e_H), Sx K cX10_layRead 2 [some (.ref a0), some (.int x1_2)] [] h_2 (lp_X10_layRead_2 F a0 n x1_2 h_2) Q1 := by
      intro n
      induction n with
      | zero => intro x1_2 h_2; exact Sx.none
      | succ n ih1 =>
        intro x1_2 h_2
        rw [lp_X10_layRead_2.eq_2]
        refine S_iload_n (dc_X10_layRead 2 rfl) rfl ?_
        refine S_sipush_ 241 (dc_X10_layRead 3 rfl) rfl ?_
        refine S_icmp_ge 27 (dc_X10_layRead 4 rfl) rfl (fun c6 => ?_) (fun c6 => ?_)
        · refine Sx.cut [false, false] ?_
          exact hK1 h_2
        · refine S_aload_n (dc_X10_layRead 5 rfl) rfl ?_
          refine S_getA (dc_X10_layRead 6 rfl) ho fl_X10_16_8_16 (fun _ _ => rfl) (fun x10 e10 => ?_)
          refine S_iload_n (dc_X10_layRead 7 rfl) rfl ?_
          refine S_aload_n (dc_X10_layRead 8 rfl) rfl ?_
          refine S_getA (dc_X10_layRead 9 rfl) ho fl_X10_13_8_15 (fun _ _ => rfl) (fun x15 e15 => ?_)
          refine S_iload_n (dc_X10_layRead 10 rfl) rfl ?_
          refine S_iald (dc_X10_layRead 11 rfl) (fun x19 e19 => ?_)
          refine S_iast (dc_X10_layRead 12 rfl) (fun h20 e20 => ?_)
          refine S_iincN 1 (L' := fun x21 => [some (.ref a0), some (.int x21)]) (dc_X10_layRead 13 rfl) rfl rfl (fun _ => rfl) (fun x21 n21 => ?_)
          refine S_goto 2 (dc_X10_layRead 14 rfl) rfl ?_
          exact ih1 x21 h20
    exact ih1 F 0 h
abbrev cX10_snapShot : ByteArray := prog_18_method_85_code
def yX10_snapShot : MethodName := ⟨"PegBandsModel", "snapShot", "()V"⟩
def tb_X10_snapShot : List (Nat × Instr × Nat) := [(0, .aload_n 0, 1), (1, .getfield 273, 3), (4, .bipush 8, 2), (6, .if_icmp .ne 76, 3), (9, .sipush 241, 3), (12, .istore_n 1, 1), (13, .iload_n 1, 1), (14, .sipush 1928, 3), (17, .if_icmp .ge 25, 3), (20, .aload_n 0, 1), (21, .getfield 25, 3), (24, .iload_n 1, 1), (25, .sipush 241, 3), (28, .isub, 1), (29, .aload_n 0, 1), (30, .getfield 25, 3), (33, .iload_n 1, 1), (34, .iaload, 1), (35, .iastore, 1), (36, .iinc 1 1, 3), (39, .goto (-26), 3), (42, .bipush 8, 2), (44, .istore_n 1, 1), (45, .iload_n 1, 1), (46, .bipush 64, 2), (48, .if_icmp .ge 24, 3), (51, .aload_n 0, 1), (52, .getfield 35, 3), (55, .iload_n 1, 1), (56, .bipush 8, 2), (58, .isub, 1), (59, .aload_n 0, 1), (60, .getfield 35, 3), (63, .iload_n 1, 1), (64, .laload, 1), (65, .lastore, 1), (66, .iinc 1 1, 3), (69, .goto (-24), 3), (72, .aload_n 0, 1), (73, .dup, 1), (74, .getfield 273, 3), (77, .iconst 1, 1), (78, .isub, 1), (79, .putfield 273, 3), (82, .iconst 0, 1), (83, .istore_n 1, 1), (84, .iload_n 1, 1), (85, .sipush 241, 3), (88, .if_icmp .ge 30, 3), (91, .aload_n 0, 1), (92, .getfield 25, 3), (95, .sipush 241, 3), (98, .aload_n 0, 1), (99, .getfield 273, 3), (102, .imul, 1), (103, .iload_n 1, 1), (104, .iadd, 1), (105, .aload_n 0, 1), (106, .getfield 13, 3), (109, .iload_n 1, 1), (110, .iaload, 1), (111, .iastore, 1), (112, .iinc 1 1, 3), (115, .goto (-31), 3), (118, .iconst 0, 1), (119, .istore_n 1, 1), (120, .iload_n 1, 1), (121, .bipush 8, 2), (123, .if_icmp .ge 29, 3), (126, .aload_n 0, 1), (127, .getfield 35, 3), (130, .bipush 8, 2), (132, .aload_n 0, 1), (133, .getfield 273, 3), (136, .imul, 1), (137, .iload_n 1, 1), (138, .iadd, 1), (139, .aload_n 0, 1), (140, .getfield 28, 3), (143, .iload_n 1, 1), (144, .laload, 1), (145, .lastore, 1), (146, .iinc 1 1, 3), (149, .goto (-29), 3), (152, .aload_n 0, 1), (153, .dup, 1), (154, .getfield 273, 3), (157, .iconst 1, 1), (158, .iadd, 1), (159, .putfield 273, 3), (162, .return_, 1)]
theorem tk_X10_snapShot : ∀ q ∈ tb_X10_snapShot, decode cX10_snapShot q.1 = .ok q.2 := by decide +kernel
theorem dc_X10_snapShot (k : Nat) {pc n : Nat} {i : Instr} (h : tb_X10_snapShot[k]? = some (pc, i, n)) : decode cX10_snapShot pc = .ok (i, n) := tk_X10_snapShot (pc, i, n) (List.mem_of_getElem? h)
abbrev mX10_snapShot : e_M := (yX10_snapShot, cX10_snapShot, 2, none, [])
theorem ok_X10_snapShot : e_mok mX10_snapShot 0 := ⟨q1951, q119, by decide +kernel, fun sig h => by cases h; rfl⟩
def lp_X10_snapShot_13 (F : Nat) (a0 : Nat) : Nat → Int32 → e_H → Option (e_H)
  | 0, _, _ => none
  | n + 1, x1_13, h_13 =>
    if 1928 ≤ x1_13 then
      some h_13
    else
      Option.bind (e_fA h_13 a0 8 19) (fun x21 =>
      Option.bind (e_fA h_13 a0 8 19) (fun x30 =>
      Option.bind (e_aI h_13 x30 0 x1_13) (fun x34 =>
      Option.bind (e_wI h_13 x21 0 (x1_13 - 241) x34) (fun h35 =>
      Option.bind (some (x1_13 + 1)) (fun x36 =>
      lp_X10_snapShot_13 F a0 n x36 h35)))))
def lp_X10_snapShot_45 (F : Nat) (a0 : Nat) : Nat → Int32 → e_H → Option (e_H)
  | 0, _, _ => none
  | n + 1, x1_45, h_45 =>
    if 64 ≤ x1_45 then
      some h_45
    else
      Option.bind (e_fA h_45 a0 8 22) (fun x52 =>
      Option.bind (e_fA h_45 a0 8 22) (fun x60 =>
      Option.bind (e_aJ h_45 x60 3 x1_45) (fun x64 =>
      Option.bind (e_wJ h_45 x52 3 (x1_45 - 8) x64) (fun h65 =>
      Option.bind (some (x1_45 + 1)) (fun x66 =>
      lp_X10_snapShot_45 F a0 n x66 h65)))))
def lp_X10_snapShot_84 (F : Nat) (a0 : Nat) : Nat → Int32 → e_H → Option (e_H)
  | 0, _, _ => none
  | n + 1, x1_84, h_84 =>
    if 241 ≤ x1_84 then
      some h_84
    else
      Option.bind (e_fA h_84 a0 8 19) (fun x92 =>
      Option.bind (e_fI h_84 a0 8 27) (fun x99 =>
      Option.bind (e_fA h_84 a0 8 15) (fun x106 =>
      Option.bind (e_aI h_84 x106 0 x1_84) (fun x110 =>
      Option.bind (e_wI h_84 x92 0 ((241 * x99) + x1_84) x110) (fun h111 =>
      Option.bind (some (x1_84 + 1)) (fun x112 =>
      lp_X10_snapShot_84 F a0 n x112 h111))))))
def lp_X10_snapShot_120 (F : Nat) (a0 : Nat) : Nat → Int32 → e_H → Option (e_H)
  | 0, _, _ => none
  | n + 1, x1_120, h_120 =>
    if 8 ≤ x1_120 then
      some h_120
    else
      Option.bind (e_fA h_120 a0 8 22) (fun x127 =>
      Option.bind (e_fI h_120 a0 8 27) (fun x133 =>
      Option.bind (e_fA h_120 a0 8 20) (fun x140 =>
      Option.bind (e_aJ h_120 x140 3 x1_120) (fun x144 =>
      Option.bind (e_wJ h_120 x127 3 ((8 * x133) + x1_120) x144) (fun h145 =>
      Option.bind (some (x1_120 + 1)) (fun x146 =>
      lp_X10_snapShot_120 F a0 n x146 h145))))))
def f_X10_snapShot (F : Nat) (h : e_H) (a0 : Nat) : Option e_H :=
  Option.bind (e_fI h a0 8 27) (fun x1 =>
  Option.bind (
      if x1 = 8 then
        Option.bind (
            lp_X10_snapShot_13 F a0 F 241 h
          : Option (e_H)) (fun h42_2 =>
        Option.bind (
            lp_X10_snapShot_45 F a0 F 8 h42_2
          : Option (e_H)) (fun h72_3 =>
        Option.bind (e_fI h72_3 a0 8 27) (fun x74 =>
        Option.bind (e_gI h72_3 a0 8 27 (x74 - 1)) (fun h79 =>
        some h79))))
      else
        some h
    : Option (e_H)) (fun h82_1 =>
  Option.bind (
      lp_X10_snapShot_84 F a0 F 0 h82_1
    : Option (e_H)) (fun h118_4 =>
  Option.bind (
      lp_X10_snapShot_120 F a0 F 0 h118_4
    : Option (e_H)) (fun h152_5 =>
  Option.bind (e_fI h152_5 a0 8 27) (fun x154 =>
  Option.bind (e_gI h152_5 a0 8 27 (x154 + 1)) (fun h159 =>
  some h159))))))
set_option maxHeartbeats 4000000 in
set_option maxRecDepth 100000 in
theorem ct_X10_snapShot {l : Launch} {D : e_D} {B : Heap} {F : Nat} {d : Nat} {h : e_H} {a0 : Nat} {h1 : e_H} (hd : 1 ≤ d) (e : f_X10_snapShot F h a0 = some h1) : e_Run l D B d mX10_snapShot [.ref a0] h (.ok none, h1) := by
  refine e_start [some (.ref a0), none] (by decide) rfl rfl rfl (Nat.le_of_ble_eq_true rfl) (fun K hl0 hD0 hB0 hM hd0 hr => ?_)
  subst hl0 hD0 hB0 hd0
  have ho : (k_M K).1.cls = "PegBandsModel" := by rw [hM]; rfl
  have hT : (k_M K).2.2.2.1 = none := by rw [hM]
  refine (show Sx K cX10_snapShot 0 [some (.ref a0), none] [] h (f_X10_snapShot F h a0) (fun w => w = h1) from ?_) _ e rfl
  clear e
  unfold f_X10_snapShot
  refine S_aload_n (dc_X10_snapShot 0 rfl) rfl ?_
  refine S_getI (dc_X10_snapShot 1 rfl) ho fl_X10_273_8_27 (fun _ _ => rfl) (fun x1 e1 => ?_)
  refine S_bipush_ 8 (dc_X10_snapShot 2 rfl) rfl ?_
  refine Sx.regK1 (pc2 := 82) (L2 := fun (h82_1 : e_H) => [some (.ref a0), none]) (st2 := fun (h82_1 : e_H) => []) (h2 := fun (h82_1 : e_H) => h82_1) ?_ (fun Q1 hK1 => ?_)
  · intro h82_1
    show Sx K cX10_snapShot 82 [some (.ref a0), none] [] h82_1 _ _
    refine S_iconst_ 0 (dc_X10_snapShot 44 rfl) rfl ?_
    refine S_istore_n (L' := [some (.ref a0), some (.int 0)]) (dc_X10_snapShot 45 rfl) rfl ?_
    refine Sx.regK1 (pc2 := 118) (L2 := fun (h118_4 : e_H) => [some (.ref a0), none]) (st2 := fun (h118_4 : e_H) => []) (h2 := fun (h118_4 : e_H) => h118_4) ?_ (fun Q4 hK4 => ?_)
    · intro h118_4
      show Sx K cX10_snapShot 118 [some (.ref a0), none] [] h118_4 _ _
      refine S_iconst_ 0 (dc_X10_snapShot 64 rfl) rfl ?_
      refine S_istore_n (L' := [some (.ref a0), some (.int 0)]) (dc_X10_snapShot 65 rfl) rfl ?_
      refine Sx.regK1 (pc2 := 152) (L2 := fun (h152_5 : e_H) => [some (.ref a0), none]) (st2 := fun (h152_5 : e_H) => []) (h2 := fun (h152_5 : e_H) => h152_5) ?_ (fun Q5 hK5 => ?_)
      · intro h152_5
        show Sx K cX10_snapShot 152 [some (.ref a0), none] [] h152_5 _ _
        refine S_aload_n (dc_X10_snapShot 84 rfl) rfl ?_
        refine S_dup (dc_X10_snapShot 85 rfl) rfl ?_
        refine S_getI (dc_X10_snapShot 86 rfl) ho fl_X10_273_8_27 (fun _ _ => rfl) (fun x154 e154 => ?_)
        refine S_iconst_ 1 (dc_X10_snapShot 87 rfl) rfl ?_
        refine S_iadd (dc_X10_snapShot 88 rfl) ?_
        refine S_putI (dc_X10_snapShot 89 rfl) ho fl_X10_273_8_27 (fun _ _ => rfl) (Or.inl rfl) rfl rfl (fun h159 e159 => ?_)
        exact S_vret (dc_X10_snapShot 90 rfl) hT (fun q => by cases q; exact hr)
      · have hK5 : ∀ (h152_5 : e_H), Sx K cX10_snapShot 152 [some (.ref a0), none] [] h152_5 (some h152_5) Q5 := hK5
        have ih5 : ∀ (n : Nat) (x1_120 : Int32) (h_120 : e_H), Sx K cX10_snapShot 120 [some (.ref a0), some (.int x1_120)] [] h_120 (lp_X10_snapShot_120 F a0 n x1_120 h_120) Q5 := by
          intro n
          induction n with
          | zero => intro x1_120 h_120; exact Sx.none
          | succ n ih5 =>
            intro x1_120 h_120
            rw [lp_X10_snapShot_120.eq_2]
            refine S_iload_n (dc_X10_snapShot 66 rfl) rfl ?_
            refine S_bipush_ 8 (dc_X10_snapShot 67 rfl) rfl ?_
            refine S_icmp_ge 152 (dc_X10_snapShot 68 rfl) rfl (fun c123 => ?_) (fun c123 => ?_)
            · refine Sx.cut [true, false] ?_
              exact hK5 h_120
            · refine S_aload_n (dc_X10_snapShot 69 rfl) rfl ?_
              refine S_getA (dc_X10_snapShot 70 rfl) ho fl_X10_35_8_22 (fun _ _ => rfl) (fun x127 e127 => ?_)
              refine S_bipush_ 8 (dc_X10_snapShot 71 rfl) rfl ?_
              refine S_aload_n (dc_X10_snapShot 72 rfl) rfl ?_
              refine S_getI (dc_X10_snapShot 73 rfl) ho fl_X10_273_8_27 (fun _ _ => rfl) (fun x133 e133 => ?_)
              refine S_imul (dc_X10_snapShot 74 rfl) ?_
              refine S_iload_n (dc_X10_snapShot 75 rfl) rfl ?_
              refine S_iadd (dc_X10_snapShot 76 rfl) ?_
              refine S_aload_n (dc_X10_snapShot 77 rfl) rfl ?_
              refine S_getA (dc_X10_snapShot 78 rfl) ho fl_X10_28_8_20 (fun _ _ => rfl) (fun x140 e140 => ?_)
              refine S_iload_n (dc_X10_snapShot 79 rfl) rfl ?_
              refine S_lald (dc_X10_snapShot 80 rfl) (fun x144 e144 => ?_)
              refine S_last (dc_X10_snapShot 81 rfl) (fun h145 e145 => ?_)
              refine S_iincN 1 (L' := fun x146 => [some (.ref a0), some (.int x146)]) (dc_X10_snapShot 82 rfl) rfl rfl (fun _ => rfl) (fun x146 n146 => ?_)
              refine S_goto 120 (dc_X10_snapShot 83 rfl) rfl ?_
              exact ih5 x146 h145
        exact ih5 F 0 h118_4
    · have hK4 : ∀ (h118_4 : e_H), Sx K cX10_snapShot 118 [some (.ref a0), none] [] h118_4 (some h118_4) Q4 := hK4
      have ih4 : ∀ (n : Nat) (x1_84 : Int32) (h_84 : e_H), Sx K cX10_snapShot 84 [some (.ref a0), some (.int x1_84)] [] h_84 (lp_X10_snapShot_84 F a0 n x1_84 h_84) Q4 := by
        intro n
        induction n with
        | zero => intro x1_84 h_84; exact Sx.none
        | succ n ih4 =>
          intro x1_84 h_84
          rw [lp_X10_snapShot_84.eq_2]
          refine S_iload_n (dc_X10_snapShot 46 rfl) rfl ?_
          refine S_sipush_ 241 (dc_X10_snapShot 47 rfl) rfl ?_
          refine S_icmp_ge 118 (dc_X10_snapShot 48 rfl) rfl (fun c88 => ?_) (fun c88 => ?_)
          · refine Sx.cut [true, false] ?_
            exact hK4 h_84
          · refine S_aload_n (dc_X10_snapShot 49 rfl) rfl ?_
            refine S_getA (dc_X10_snapShot 50 rfl) ho fl_X10_25_8_19 (fun _ _ => rfl) (fun x92 e92 => ?_)
            refine S_sipush_ 241 (dc_X10_snapShot 51 rfl) rfl ?_
            refine S_aload_n (dc_X10_snapShot 52 rfl) rfl ?_
            refine S_getI (dc_X10_snapShot 53 rfl) ho fl_X10_273_8_27 (fun _ _ => rfl) (fun x99 e99 => ?_)
            refine S_imul (dc_X10_snapShot 54 rfl) ?_
            refine S_iload_n (dc_X10_snapShot 55 rfl) rfl ?_
            refine S_iadd (dc_X10_snapShot 56 rfl) ?_
            refine S_aload_n (dc_X10_snapShot 57 rfl) rfl ?_
            refine S_getA (dc_X10_snapShot 58 rfl) ho fl_X10_13_8_15 (fun _ _ => rfl) (fun x106 e106 => ?_)
            refine S_iload_n (dc_X10_snapShot 59 rfl) rfl ?_
            refine S_iald (dc_X10_snapShot 60 rfl) (fun x110 e110 => ?_)
            refine S_iast (dc_X10_snapShot 61 rfl) (fun h111 e111 => ?_)
            refine S_iincN 1 (L' := fun x112 => [some (.ref a0), some (.int x112)]) (dc_X10_snapShot 62 rfl) rfl rfl (fun _ => rfl) (fun x112 n112 => ?_)
            refine S_goto 84 (dc_X10_snapShot 63 rfl) rfl ?_
            exact ih4 x112 h111
      exact ih4 F 0 h82_1
  · have hK1 : ∀ (h82_1 : e_H), Sx K cX10_snapShot 82 [some (.ref a0), none] [] h82_1 (some h82_1) Q1 := hK1
    refine S_icmp_ne 82 (dc_X10_snapShot 3 rfl) rfl (fun c6 => ?_) (fun c6 => ?_)
    · exact hK1 h
    · refine S_sipush_ 241 (dc_X10_snapShot 4 rfl) rfl ?_
      refine S_istore_n (L' := [some (.ref a0), some (.int 241)]) (dc_X10_snapShot 5 rfl) rfl ?_
      refine Sx.regK1 (pc2 := 42) (L2 := fun (h42_2 : e_H) => [some (.ref a0), none]) (st2 := fun (h42_2 : e_H) => []) (h2 := fun (h42_2 : e_H) => h42_2) ?_ (fun Q2 hK2 => ?_)
      · intro h42_2
        show Sx K cX10_snapShot 42 [some (.ref a0), none] [] h42_2 _ _
        refine S_bipush_ 8 (dc_X10_snapShot 21 rfl) rfl ?_
        refine S_istore_n (L' := [some (.ref a0), some (.int 8)]) (dc_X10_snapShot 22 rfl) rfl ?_
        refine Sx.regK1 (pc2 := 72) (L2 := fun (h72_3 : e_H) => [some (.ref a0), none]) (st2 := fun (h72_3 : e_H) => []) (h2 := fun (h72_3 : e_H) => h72_3) ?_ (fun Q3 hK3 => ?_)
        · intro h72_3
          show Sx K cX10_snapShot 72 [some (.ref a0), none] [] h72_3 _ _
          refine S_aload_n (dc_X10_snapShot 38 rfl) rfl ?_
          refine S_dup (dc_X10_snapShot 39 rfl) rfl ?_
          refine S_getI (dc_X10_snapShot 40 rfl) ho fl_X10_273_8_27 (fun _ _ => rfl) (fun x74 e74 => ?_)
          refine S_iconst_ 1 (dc_X10_snapShot 41 rfl) rfl ?_
          refine S_isub (dc_X10_snapShot 42 rfl) ?_
          refine S_putI (dc_X10_snapShot 43 rfl) ho fl_X10_273_8_27 (fun _ _ => rfl) (Or.inl rfl) rfl rfl (fun h79 e79 => ?_)
          exact hK1 h79
        · have hK3 : ∀ (h72_3 : e_H), Sx K cX10_snapShot 72 [some (.ref a0), none] [] h72_3 (some h72_3) Q3 := hK3
          have ih3 : ∀ (n : Nat) (x1_45 : Int32) (h_45 : e_H), Sx K cX10_snapShot 45 [some (.ref a0), some (.int x1_45)] [] h_45 (lp_X10_snapShot_45 F a0 n x1_45 h_45) Q3 := by
            intro n
            induction n with
            | zero => intro x1_45 h_45; exact Sx.none
            | succ n ih3 =>
              intro x1_45 h_45
              rw [lp_X10_snapShot_45.eq_2]
              refine S_iload_n (dc_X10_snapShot 23 rfl) rfl ?_
              refine S_bipush_ 64 (dc_X10_snapShot 24 rfl) rfl ?_
              refine S_icmp_ge 72 (dc_X10_snapShot 25 rfl) rfl (fun c48 => ?_) (fun c48 => ?_)
              · refine Sx.cut [true, false] ?_
                exact hK3 h_45
              · refine S_aload_n (dc_X10_snapShot 26 rfl) rfl ?_
                refine S_getA (dc_X10_snapShot 27 rfl) ho fl_X10_35_8_22 (fun _ _ => rfl) (fun x52 e52 => ?_)
                refine S_iload_n (dc_X10_snapShot 28 rfl) rfl ?_
                refine S_bipush_ 8 (dc_X10_snapShot 29 rfl) rfl ?_
                refine S_isub (dc_X10_snapShot 30 rfl) ?_
                refine S_aload_n (dc_X10_snapShot 31 rfl) rfl ?_
                refine S_getA (dc_X10_snapShot 32 rfl) ho fl_X10_35_8_22 (fun _ _ => rfl) (fun x60 e60 => ?_)
                refine S_iload_n (dc_X10_snapShot 33 rfl) rfl ?_
                refine S_lald (dc_X10_snapShot 34 rfl) (fun x64 e64 => ?_)
                refine S_last (dc_X10_snapShot 35 rfl) (fun h65 e65 => ?_)
                refine S_iincN 1 (L' := fun x66 => [some (.ref a0), some (.int x66)]) (dc_X10_snapShot 36 rfl) rfl rfl (fun _ => rfl) (fun x66 n66 => ?_)
                refine S_goto 45 (dc_X10_snapShot 37 rfl) rfl ?_
                exact ih3 x66 h65
          exact ih3 F 8 h42_2
      · have hK2 : ∀ (h42_2 : e_H), Sx K cX10_snapShot 42 [some (.ref a0), none] [] h42_2 (some h42_2) Q2 := hK2
        have ih2 : ∀ (n : Nat) (x1_13 : Int32) (h_13 : e_H), Sx K cX10_snapShot 13 [some (.ref a0), some (.int x1_13)] [] h_13 (lp_X10_snapShot_13 F a0 n x1_13 h_13) Q2 := by
          intro n
          induction n with
          | zero => intro x1_13 h_13; exact Sx.none
          | succ n ih2 =>
            intro x1_13 h_13
            rw [lp_X10_snapShot_13.eq_2]
            refine S_iload_n (dc_X10_snapShot 6 rfl) rfl ?_
            refine S_sipush_ 1928 (dc_X10_snapShot 7 rfl) rfl ?_
            refine S_icmp_ge 42 (dc_X10_snapShot 8 rfl) rfl (fun c17 => ?_) (fun c17 => ?_)
            · refine Sx.cut [true, false] ?_
              exact hK2 h_13
            · refine S_aload_n (dc_X10_snapShot 9 rfl) rfl ?_
              refine S_getA (dc_X10_snapShot 10 rfl) ho fl_X10_25_8_19 (fun _ _ => rfl) (fun x21 e21 => ?_)
              refine S_iload_n (dc_X10_snapShot 11 rfl) rfl ?_
              refine S_sipush_ 241 (dc_X10_snapShot 12 rfl) rfl ?_
              refine S_isub (dc_X10_snapShot 13 rfl) ?_
              refine S_aload_n (dc_X10_snapShot 14 rfl) rfl ?_
              refine S_getA (dc_X10_snapShot 15 rfl) ho fl_X10_25_8_19 (fun _ _ => rfl) (fun x30 e30 => ?_)
              refine S_iload_n (dc_X10_snapShot 16 rfl) rfl ?_
              refine S_iald (dc_X10_snapShot 17 rfl) (fun x34 e34 => ?_)
              refine S_iast (dc_X10_snapShot 18 rfl) (fun h35 e35 => ?_)
              refine S_iincN 1 (L' := fun x36 => [some (.ref a0), some (.int x36)]) (dc_X10_snapShot 19 rfl) rfl rfl (fun _ => rfl) (fun x36 n36 => ?_)
              refine S_goto 13 (dc_X10_snapShot 20 rfl) rfl ?_
              exact ih2 x36 h35
        exact ih2 F 241 h
abbrev cX10_change : ByteArray := prog_18_method_87_code
def yX10_change : MethodName := ⟨"PegBandsModel", "change", "(I)I"⟩
def tb_X10_change : List (Nat × Instr × Nat) := [(0, .aload_n 0, 1), (1, .getfield 16, 3), (4, .iload_n 1, 1), (5, .aload_n 0, 1), (6, .getfield 16, 3), (9, .iconst 4, 1), (10, .iaload, 1), (11, .invokestatic 246, 3), (14, .istore_n 2, 1), (15, .iload_n 2, 1), (16, .ifCond .eq 5, 3), (19, .iload_n 2, 1), (20, .ireturn, 1), (21, .aload_n 0, 1), (22, .invokevirtual 362, 3), (25, .iconst 0, 1), (26, .istore_n 3, 1), (27, .iload_n 3, 1), (28, .sipush 241, 3), (31, .if_icmp .ge 21, 3), (34, .aload_n 0, 1), (35, .getfield 13, 3), (38, .iload_n 3, 1), (39, .aload_n 0, 1), (40, .getfield 16, 3), (43, .iload_n 3, 1), (44, .iaload, 1), (45, .iastore, 1), (46, .iinc 3 1, 3), (49, .goto (-22), 3), (52, .iconst 0, 1), (53, .ireturn, 1)]
theorem tk_X10_change : ∀ q ∈ tb_X10_change, decode cX10_change q.1 = .ok q.2 := by decide +kernel
theorem dc_X10_change (k : Nat) {pc n : Nat} {i : Instr} (h : tb_X10_change[k]? = some (pc, i, n)) : decode cX10_change pc = .ok (i, n) := tk_X10_change (pc, i, n) (List.mem_of_getElem? h)
abbrev mX10_change : e_M := (yX10_change, cX10_change, 4, some (.int), [])
theorem ok_X10_change : e_mok mX10_change 1 := ⟨q1947, q119, by decide +kernel, fun sig h => by cases h; rfl⟩
def lp_X10_change_27 (F : Nat) (a0 : Nat) : Nat → Int32 → e_H → Option (e_H)
  | 0, _, _ => none
  | n + 1, x3_27, h_27 =>
    if 241 ≤ x3_27 then
      some h_27
    else
      Option.bind (e_fA h_27 a0 8 15) (fun x35 =>
      Option.bind (e_fA h_27 a0 8 16) (fun x40 =>
      Option.bind (e_aI h_27 x40 0 x3_27) (fun x44 =>
      Option.bind (e_wI h_27 x35 0 x3_27 x44) (fun h45 =>
      Option.bind (some (x3_27 + 1)) (fun x46 =>
      lp_X10_change_27 F a0 n x46 h45)))))
def f_X10_change (F : Nat) (h : e_H) (a0 : Nat) (a1 : Int32) : Option (Int32 × e_H) :=
  Option.bind (e_fA h a0 8 16) (fun x1 =>
  Option.bind (e_fA h a0 8 16) (fun x6 =>
  Option.bind (e_aI h x6 0 4) (fun x10 =>
  Option.bind (f_X10_wrong F h x1 a1 x10) (fun x11 =>
  if x11 = 0 then
    Option.bind (f_X10_snapShot F h a0) (fun h22 =>
    Option.bind (
        lp_X10_change_27 F a0 F 0 h22
      : Option (e_H)) (fun h52_1 =>
    some (0, h52_1)))
  else
    some (x11, h)))))
set_option maxHeartbeats 4000000 in
set_option maxRecDepth 100000 in
theorem ct_X10_change {l : Launch} {D : e_D} {B : Heap} {F : Nat} {d : Nat} {h : e_H} {a0 : Nat} {a1 : Int32} {v : Int32} {h1 : e_H} (hd : 8 ≤ d) (e : f_X10_change F h a0 a1 = some (v, h1)) : e_Run l D B d mX10_change [.ref a0, .int a1] h (.ok (some (.int v)), h1) := by
  refine e_start [some (.ref a0), some (.int a1), none, none] (by decide) rfl rfl rfl (Nat.le_of_ble_eq_true rfl) (fun K hl0 hD0 hB0 hM hd0 hr => ?_)
  subst hl0 hD0 hB0 hd0
  have ho : (k_M K).1.cls = "PegBandsModel" := by rw [hM]; rfl
  have hT : (k_M K).2.2.2.1 = some (.int) := by rw [hM]
  refine (show Sx K cX10_change 0 [some (.ref a0), some (.int a1), none, none] [] h (f_X10_change F h a0 a1) (fun w => w = (v, h1)) from ?_) _ e rfl
  clear e
  unfold f_X10_change
  refine S_aload_n (dc_X10_change 0 rfl) rfl ?_
  refine S_getA (dc_X10_change 1 rfl) ho fl_X10_16_8_16 (fun _ _ => rfl) (fun x1 e1 => ?_)
  refine S_iload_n (dc_X10_change 2 rfl) rfl ?_
  refine S_aload_n (dc_X10_change 3 rfl) rfl ?_
  refine S_getA (dc_X10_change 4 rfl) ho fl_X10_16_8_16 (fun _ _ => rfl) (fun x6 e6 => ?_)
  refine S_iconst_ 4 (dc_X10_change 5 rfl) rfl ?_
  refine S_iald (dc_X10_change 6 rfl) (fun x10 e10 => ?_)
  refine S_roI (d := k_d K - 1) (e_callS (As := [.ref x1, .int a1, .int x10]) (rest := []) ok_X10_wrong rfl (Nat.le_of_ble_eq_true rfl) (dc_X10_change 7 rfl) ho q1729 q1730 rfl (Nat.le_of_ble_eq_true rfl)) (by omega) (fun _ e => ct_X10_wrong (by omega) e) (fun x11 e11 => ?_)
  refine S_istore_n (L' := [some (.ref a0), some (.int a1), some (.int x11), none]) (dc_X10_change 8 rfl) rfl ?_
  refine S_iload_n (dc_X10_change 9 rfl) rfl ?_
  refine S_if_eq 21 (dc_X10_change 10 rfl) rfl (fun c16 => ?_) (fun c16 => ?_)
  · refine S_aload_n (dc_X10_change 13 rfl) rfl ?_
    refine S_rwV (d := k_d K - 1) (e_callV (b := a0) (As := []) (rest := []) ok_X10_snapShot rfl (Nat.le_of_ble_eq_true rfl) (dc_X10_change 14 rfl) ho q1948 q1950 (show e_cl[8]? = some (RX10, TX10, 51) from rfl) (e_sel.of qs76) (e_fA_of e1).1 rfl (Nat.le_of_ble_eq_true rfl)) (by omega) (fun _ e => ct_X10_snapShot (by omega) e) (fun h22 e22 => ?_)
    refine S_iconst_ 0 (dc_X10_change 15 rfl) rfl ?_
    refine S_istore_n (L' := [some (.ref a0), some (.int a1), some (.int x11), some (.int 0)]) (dc_X10_change 16 rfl) rfl ?_
    refine Sx.regK1 (pc2 := 52) (L2 := fun (h52_1 : e_H) => [none, none, none, none]) (st2 := fun (h52_1 : e_H) => []) (h2 := fun (h52_1 : e_H) => h52_1) ?_ (fun Q1 hK1 => ?_)
    · intro h52_1
      show Sx K cX10_change 52 [none, none, none, none] [] h52_1 _ _
      refine S_iconst_ 0 (dc_X10_change 30 rfl) rfl ?_
      exact S_iret (dc_X10_change 31 rfl) hT rfl (e_rqI hr)
    · have hK1 : ∀ (h52_1 : e_H), Sx K cX10_change 52 [none, none, none, none] [] h52_1 (some h52_1) Q1 := hK1
      have ih1 : ∀ (n : Nat) (x3_27 : Int32) (h_27 : e_H), Sx K cX10_change 27 [some (.ref a0), none, none, some (.int x3_27)] [] h_27 (lp_X10_change_27 F a0 n x3_27 h_27) Q1 := by
        intro n
        induction n with
        | zero => intro x3_27 h_27; exact Sx.none
        | succ n ih1 =>
          intro x3_27 h_27
          rw [lp_X10_change_27.eq_2]
          refine S_iload_n (dc_X10_change 17 rfl) rfl ?_
          refine S_sipush_ 241 (dc_X10_change 18 rfl) rfl ?_
          refine S_icmp_ge 52 (dc_X10_change 19 rfl) rfl (fun c31 => ?_) (fun c31 => ?_)
          · refine Sx.cut [false, true, true, false] ?_
            exact hK1 h_27
          · refine S_aload_n (dc_X10_change 20 rfl) rfl ?_
            refine S_getA (dc_X10_change 21 rfl) ho fl_X10_13_8_15 (fun _ _ => rfl) (fun x35 e35 => ?_)
            refine S_iload_n (dc_X10_change 22 rfl) rfl ?_
            refine S_aload_n (dc_X10_change 23 rfl) rfl ?_
            refine S_getA (dc_X10_change 24 rfl) ho fl_X10_16_8_16 (fun _ _ => rfl) (fun x40 e40 => ?_)
            refine S_iload_n (dc_X10_change 25 rfl) rfl ?_
            refine S_iald (dc_X10_change 26 rfl) (fun x44 e44 => ?_)
            refine S_iast (dc_X10_change 27 rfl) (fun h45 e45 => ?_)
            refine S_iincN 1 (L' := fun x46 => [some (.ref a0), none, none, some (.int x46)]) (dc_X10_change 28 rfl) rfl rfl (fun _ => rfl) (fun x46 n46 => ?_)
            refine S_goto 27 (dc_X10_change 29 rfl) rfl ?_
            exact ih1 x46 h45
      refine Sx.cut [true, false, false, true] ?_
      exact ih1 F 0 h22
  · refine S_iload_n (dc_X10_change 11 rfl) rfl ?_
    exact S_iret (dc_X10_change 12 rfl) hT rfl (e_rqI hr)
abbrev cX10_move : ByteArray := prog_18_method_89_code
def yX10_move : MethodName := ⟨"PegBandsModel", "move", "(III)I"⟩
def tb_X10_move : List (Nat × Instr × Nat) := [(0, .aload_n 0, 1), (1, .iconst 0, 1), (2, .putfield 94, 3), (5, .aload_n 0, 1), (6, .iload_n 1, 1), (7, .invokevirtual 304, 3), (10, .ifCond .eq 24, 3), (13, .iload_n 2, 1), (14, .ifCond .lt 20, 3), (17, .iload_n 2, 1), (18, .aload_n 0, 1), (19, .iload_n 1, 1), (20, .invokevirtual 279, 3), (23, .if_icmp .ge 11, 3), (26, .aload_n 0, 1), (27, .iload_n 3, 1), (28, .invokevirtual 282, 3), (31, .ifCond .ne 5, 3), (34, .iconst (-1), 1), (35, .ireturn, 1), (36, .aload_n 0, 1), (37, .invokevirtual 365, 3), (40, .aload_n 0, 1), (41, .getfield 16, 3), (44, .bipush 105, 2), (46, .bipush 17, 2), (48, .iload_n 1, 1), (49, .imul, 1), (50, .iadd, 1), (51, .iconst 1, 1), (52, .iadd, 1), (53, .iconst 2, 1), (54, .iload_n 2, 1), (55, .imul, 1), (56, .iadd, 1), (57, .iload_n 3, 1), (58, .bipush 10, 2), (60, .irem, 1), (61, .iastore, 1), (62, .aload_n 0, 1), (63, .getfield 16, 3), (66, .bipush 105, 2), (68, .bipush 17, 2), (70, .iload_n 1, 1), (71, .imul, 1), (72, .iadd, 1), (73, .iconst 2, 1), (74, .iadd, 1), (75, .iconst 2, 1), (76, .iload_n 2, 1), (77, .imul, 1), (78, .iadd, 1), (79, .iload_n 3, 1), (80, .bipush 10, 2), (82, .idiv, 1), (83, .iastore, 1), (84, .aload_n 0, 1), (85, .iload_n 1, 1), (86, .invokevirtual 368, 3), (89, .ireturn, 1)]
theorem tk_X10_move : ∀ q ∈ tb_X10_move, decode cX10_move q.1 = .ok q.2 := by decide +kernel
theorem dc_X10_move (k : Nat) {pc n : Nat} {i : Instr} (h : tb_X10_move[k]? = some (pc, i, n)) : decode cX10_move pc = .ok (i, n) := tk_X10_move (pc, i, n) (List.mem_of_getElem? h)
abbrev mX10_move : e_M := (yX10_move, cX10_move, 4, some (.int), [])
theorem ok_X10_move : e_mok mX10_move 3 := ⟨q1939, q119, by decide +kernel, fun sig h => by cases h; rfl⟩
def f_X10_move (F : Nat) (h : e_H) (a0 : Nat) (a1 : Int32) (a2 : Int32) (a3 : Int32) : Option (Int32 × e_H) :=
  Option.bind (e_gI h a0 8 0 0) (fun h2 =>
  Option.bind (e_is h2 a0 8) (fun _ =>
  Option.bind (f_X10_isBand h2 a0 a1) (fun x7 =>
  if x7 = 0 then
    some ((-1), h2)
  else
    if a2 < 0 then
      some ((-1), h2)
    else
      Option.bind (f_X10_corners h2 a0 a1) (fun x20 =>
      if x20 ≤ a2 then
        some ((-1), h2)
      else
        Option.bind (f_X10_isAt h2 a0 a3) (fun x28 =>
        if x28 = 0 then
          some ((-1), h2)
        else
          Option.bind (f_X10_layRead F h2 a0) (fun h37 =>
          Option.bind (e_fA h37 a0 8 16) (fun x41 =>
          Option.bind (e_wI h37 x41 0 (((105 + (17 * a1)) + 1) + (2 * a2)) (a3 - a3 / 10 * 10)) (fun h61 =>
          Option.bind (e_fA h61 a0 8 16) (fun x63 =>
          Option.bind (e_wI h61 x63 0 (((105 + (17 * a1)) + 2) + (2 * a2)) (a3 / 10)) (fun h83 =>
          Option.bind (e_is h83 a0 8) (fun _ =>
          e_b2 (f_X10_change F h83 a0 a1) (fun x86 h86 =>
          some (x86, h86)))))))))))))
set_option maxHeartbeats 4000000 in
set_option maxRecDepth 100000 in
theorem ct_X10_move {l : Launch} {D : e_D} {B : Heap} {F : Nat} {d : Nat} {h : e_H} {a0 : Nat} {a1 : Int32} {a2 : Int32} {a3 : Int32} {v : Int32} {h1 : e_H} (hd : 9 ≤ d) (e : f_X10_move F h a0 a1 a2 a3 = some (v, h1)) : e_Run l D B d mX10_move [.ref a0, .int a1, .int a2, .int a3] h (.ok (some (.int v)), h1) := by
  refine e_start [some (.ref a0), some (.int a1), some (.int a2), some (.int a3)] (by decide) rfl rfl rfl (Nat.le_of_ble_eq_true rfl) (fun K hl0 hD0 hB0 hM hd0 hr => ?_)
  subst hl0 hD0 hB0 hd0
  have ho : (k_M K).1.cls = "PegBandsModel" := by rw [hM]; rfl
  have hT : (k_M K).2.2.2.1 = some (.int) := by rw [hM]
  refine (show Sx K cX10_move 0 [some (.ref a0), some (.int a1), some (.int a2), some (.int a3)] [] h (f_X10_move F h a0 a1 a2 a3) (fun w => w = (v, h1)) from ?_) _ e rfl
  clear e
  unfold f_X10_move
  refine S_aload_n (dc_X10_move 0 rfl) rfl ?_
  refine S_iconst_ 0 (dc_X10_move 1 rfl) rfl ?_
  refine S_putI (dc_X10_move 2 rfl) ho fl_X10_94_8_0 (fun _ _ => rfl) (Or.inl rfl) rfl rfl (fun h2 e2 => ?_)
  refine S_aload_n (dc_X10_move 3 rfl) rfl ?_
  refine S_iload_n (dc_X10_move 4 rfl) rfl ?_
  refine Sx.ask (fun _ i7 => ?_)
  refine S_roI (d := k_d K - 1) (e_callV (b := a0) (As := [.int a1]) (rest := []) ok_X10_isBand rfl (Nat.le_of_ble_eq_true rfl) (dc_X10_move 5 rfl) ho q1791 q1793 (show e_cl[8]? = some (RX10, TX10, 51) from rfl) (e_sel.of qs52) (e_is_of i7) rfl (Nat.le_of_ble_eq_true rfl)) (by omega) (fun _ e => ct_X10_isBand (by omega) e) (fun x7 e7 => ?_)
  refine S_if_eq 34 (dc_X10_move 6 rfl) rfl (fun c10 => ?_) (fun c10 => ?_)
  · refine S_iconst_ (-1) (dc_X10_move 18 rfl) rfl ?_
    exact S_iret (dc_X10_move 19 rfl) hT rfl (e_rqI hr)
  · refine S_iload_n (dc_X10_move 7 rfl) rfl ?_
    refine S_if_lt 34 (dc_X10_move 8 rfl) rfl (fun c14 => ?_) (fun c14 => ?_)
    · refine S_iconst_ (-1) (dc_X10_move 18 rfl) rfl ?_
      exact S_iret (dc_X10_move 19 rfl) hT rfl (e_rqI hr)
    · refine S_iload_n (dc_X10_move 9 rfl) rfl ?_
      refine S_aload_n (dc_X10_move 10 rfl) rfl ?_
      refine S_iload_n (dc_X10_move 11 rfl) rfl ?_
      refine S_roI (d := k_d K - 1) (e_callV (b := a0) (As := [.int a1]) (rest := [.int a2]) ok_X10_corners rfl (Nat.le_of_ble_eq_true rfl) (dc_X10_move 12 rfl) ho q1803 q1805 (show e_cl[8]? = some (RX10, TX10, 51) from rfl) (e_sel.of qs55) (e_is_of i7) rfl (Nat.le_of_ble_eq_true rfl)) (by omega) (fun _ e => ct_X10_corners (by omega) e) (fun x20 e20 => ?_)
      refine S_icmp_ge 34 (dc_X10_move 13 rfl) rfl (fun c23 => ?_) (fun c23 => ?_)
      · refine S_iconst_ (-1) (dc_X10_move 18 rfl) rfl ?_
        exact S_iret (dc_X10_move 19 rfl) hT rfl (e_rqI hr)
      · refine S_aload_n (dc_X10_move 14 rfl) rfl ?_
        refine S_iload_n (dc_X10_move 15 rfl) rfl ?_
        refine S_roI (d := k_d K - 1) (e_callV (b := a0) (As := [.int a3]) (rest := []) ok_X10_isAt rfl (Nat.le_of_ble_eq_true rfl) (dc_X10_move 16 rfl) ho q1783 q1785 (show e_cl[8]? = some (RX10, TX10, 51) from rfl) (e_sel.of qs51) (e_is_of i7) rfl (Nat.le_of_ble_eq_true rfl)) (by omega) (fun _ e => ct_X10_isAt (by omega) e) (fun x28 e28 => ?_)
        refine S_if_ne 36 (dc_X10_move 17 rfl) rfl (fun c31 => ?_) (fun c31 => ?_)
        · refine S_aload_n (dc_X10_move 20 rfl) rfl ?_
          refine S_rwV (d := k_d K - 1) (e_callV (b := a0) (As := []) (rest := []) ok_X10_layRead rfl (Nat.le_of_ble_eq_true rfl) (dc_X10_move 21 rfl) ho q1940 q1942 (show e_cl[8]? = some (RX10, TX10, 51) from rfl) (e_sel.of qs74) (e_is_of i7) rfl (Nat.le_of_ble_eq_true rfl)) (by omega) (fun _ e => ct_X10_layRead (by omega) e) (fun h37 e37 => ?_)
          refine S_aload_n (dc_X10_move 22 rfl) rfl ?_
          refine S_getA (dc_X10_move 23 rfl) ho fl_X10_16_8_16 (fun _ _ => rfl) (fun x41 e41 => ?_)
          refine S_bipush_ 105 (dc_X10_move 24 rfl) rfl ?_
          refine S_bipush_ 17 (dc_X10_move 25 rfl) rfl ?_
          refine S_iload_n (dc_X10_move 26 rfl) rfl ?_
          refine S_imul (dc_X10_move 27 rfl) ?_
          refine S_iadd (dc_X10_move 28 rfl) ?_
          refine S_iconst_ 1 (dc_X10_move 29 rfl) rfl ?_
          refine S_iadd (dc_X10_move 30 rfl) ?_
          refine S_iconst_ 2 (dc_X10_move 31 rfl) rfl ?_
          refine S_iload_n (dc_X10_move 32 rfl) rfl ?_
          refine S_imul (dc_X10_move 33 rfl) ?_
          refine S_iadd (dc_X10_move 34 rfl) ?_
          refine S_iload_n (dc_X10_move 35 rfl) rfl ?_
          refine S_bipush_ 10 (dc_X10_move 36 rfl) rfl ?_
          refine S_irem (dc_X10_move 37 rfl) (by decide) ?_
          refine S_iast (dc_X10_move 38 rfl) (fun h61 e61 => ?_)
          refine S_aload_n (dc_X10_move 39 rfl) rfl ?_
          refine S_getA (dc_X10_move 40 rfl) ho fl_X10_16_8_16 (fun _ _ => rfl) (fun x63 e63 => ?_)
          refine S_bipush_ 105 (dc_X10_move 41 rfl) rfl ?_
          refine S_bipush_ 17 (dc_X10_move 42 rfl) rfl ?_
          refine S_iload_n (dc_X10_move 43 rfl) rfl ?_
          refine S_imul (dc_X10_move 44 rfl) ?_
          refine S_iadd (dc_X10_move 45 rfl) ?_
          refine S_iconst_ 2 (dc_X10_move 46 rfl) rfl ?_
          refine S_iadd (dc_X10_move 47 rfl) ?_
          refine S_iconst_ 2 (dc_X10_move 48 rfl) rfl ?_
          refine S_iload_n (dc_X10_move 49 rfl) rfl ?_
          refine S_imul (dc_X10_move 50 rfl) ?_
          refine S_iadd (dc_X10_move 51 rfl) ?_
          refine S_iload_n (dc_X10_move 52 rfl) rfl ?_
          refine S_bipush_ 10 (dc_X10_move 53 rfl) rfl ?_
          refine S_idiv (dc_X10_move 54 rfl) (by decide) ?_
          refine S_iast (dc_X10_move 55 rfl) (fun h83 e83 => ?_)
          refine S_aload_n (dc_X10_move 56 rfl) rfl ?_
          refine S_iload_n (dc_X10_move 57 rfl) rfl ?_
          refine Sx.ask (fun _ i86 => ?_)
          refine S_rwI (d := k_d K - 1) (e_callV (b := a0) (As := [.int a1]) (rest := []) ok_X10_change rfl (Nat.le_of_ble_eq_true rfl) (dc_X10_move 58 rfl) ho q1944 q1946 (show e_cl[8]? = some (RX10, TX10, 51) from rfl) (e_sel.of qs75) (e_is_of i86) rfl (Nat.le_of_ble_eq_true rfl)) (by omega) (fun _ _ e => ct_X10_change (by omega) e) (fun x86 h86 e86 => ?_)
          exact S_iret (dc_X10_move 59 rfl) hT rfl (e_rqI hr)
        · refine S_iconst_ (-1) (dc_X10_move 18 rfl) rfl ?_
          exact S_iret (dc_X10_move 19 rfl) hT rfl (e_rqI hr)
abbrev cX10_slide : ByteArray := prog_18_method_90_code
def yX10_slide : MethodName := ⟨"PegBandsModel", "slide", "(III)I"⟩
def tb_X10_slide : List (Nat × Instr × Nat) := [(0, .aload_n 0, 1), (1, .iconst 0, 1), (2, .putfield 94, 3), (5, .aload_n 0, 1), (6, .iload_n 1, 1), (7, .invokevirtual 304, 3), (10, .ifCond .ne 5, 3), (13, .iconst (-1), 1), (14, .ireturn, 1), (15, .aload_n 0, 1), (16, .invokevirtual 365, 3), (19, .iconst 0, 1), (20, .istore 4, 2), (22, .iload 4, 2), (24, .aload_n 0, 1), (25, .iload_n 1, 1), (26, .invokevirtual 279, 3), (29, .if_icmp .ge 121, 3), (32, .aload_n 0, 1), (33, .iload_n 1, 1), (34, .iload 4, 2), (36, .invokevirtual 285, 3), (39, .i2l, 1), (40, .iload_n 2, 1), (41, .i2l, 1), (42, .ladd, 1), (43, .lstore 5, 2), (45, .aload_n 0, 1), (46, .iload_n 1, 1), (47, .iload 4, 2), (49, .invokevirtual 289, 3), (52, .i2l, 1), (53, .iload_n 3, 1), (54, .i2l, 1), (55, .ladd, 1), (56, .lstore 7, 2), (58, .lload 5, 2), (60, .lconst 0, 1), (61, .lcmp, 1), (62, .ifCond .lt 36, 3), (65, .lload 5, 2), (67, .aload_n 0, 1), (68, .getfield 13, 3), (71, .iconst 0, 1), (72, .iaload, 1), (73, .i2l, 1), (74, .lcmp, 1), (75, .ifCond .ge 23, 3), (78, .lload 7, 2), (80, .lconst 0, 1), (81, .lcmp, 1), (82, .ifCond .lt 16, 3), (85, .lload 7, 2), (87, .aload_n 0, 1), (88, .getfield 13, 3), (91, .iconst 1, 1), (92, .iaload, 1), (93, .i2l, 1), (94, .lcmp, 1), (95, .ifCond .lt 5, 3), (98, .iconst 1, 1), (99, .ireturn, 1), (100, .aload_n 0, 1), (101, .getfield 16, 3), (104, .bipush 105, 2), (106, .bipush 17, 2), (108, .iload_n 1, 1), (109, .imul, 1), (110, .iadd, 1), (111, .iconst 1, 1), (112, .iadd, 1), (113, .iconst 2, 1), (114, .iload 4, 2), (116, .imul, 1), (117, .iadd, 1), (118, .lload 5, 2), (120, .l2i, 1), (121, .iastore, 1), (122, .aload_n 0, 1), (123, .getfield 16, 3), (126, .bipush 105, 2), (128, .bipush 17, 2), (130, .iload_n 1, 1), (131, .imul, 1), (132, .iadd, 1), (133, .iconst 2, 1), (134, .iadd, 1), (135, .iconst 2, 1), (136, .iload 4, 2), (138, .imul, 1), (139, .iadd, 1), (140, .lload 7, 2), (142, .l2i, 1), (143, .iastore, 1), (144, .iinc 4 1, 3), (147, .goto (-125), 3), (150, .aload_n 0, 1), (151, .iload_n 1, 1), (152, .invokevirtual 368, 3), (155, .ireturn, 1)]
theorem tk_X10_slide : ∀ q ∈ tb_X10_slide, decode cX10_slide q.1 = .ok q.2 := by decide +kernel
theorem dc_X10_slide (k : Nat) {pc n : Nat} {i : Instr} (h : tb_X10_slide[k]? = some (pc, i, n)) : decode cX10_slide pc = .ok (i, n) := tk_X10_slide (pc, i, n) (List.mem_of_getElem? h)
abbrev mX10_slide : e_M := (yX10_slide, cX10_slide, 9, some (.int), [])
theorem ok_X10_slide : e_mok mX10_slide 3 := ⟨q1955, q119, by decide +kernel, fun sig h => by cases h; rfl⟩
def lp_X10_slide_22 (F : Nat) (a0 : Nat) (a1 : Int32) (a2 : Int32) (a3 : Int32) : Nat → Int32 → e_H → Option (Except (Int32 × e_H) e_H)
  | 0, _, _ => none
  | n + 1, x4_22, h_22 =>
    Option.bind (e_is h_22 a0 8) (fun _ =>
    Option.bind (f_X10_corners h_22 a0 a1) (fun x26 =>
    if x26 ≤ x4_22 then
      some (.ok h_22)
    else
      Option.bind (f_X10_x h_22 a0 a1 x4_22) (fun x36 =>
      Option.bind (some ((x36.toInt64) + (a2.toInt64))) (fun x43 =>
      Option.bind (f_X10_y h_22 a0 a1 x4_22) (fun x49 =>
      Option.bind (some ((x49.toInt64) + (a3.toInt64))) (fun x56 =>
      if (lg_cmp x43 0) < 0 then
        some (.error (1, h_22))
      else
        Option.bind (e_fA h_22 a0 8 15) (fun x68 =>
        Option.bind (e_aI h_22 x68 0 0) (fun x72 =>
        if 0 ≤ (lg_cmp x43 (x72.toInt64)) then
          some (.error (1, h_22))
        else
          if (lg_cmp x56 0) < 0 then
            some (.error (1, h_22))
          else
            Option.bind (e_fA h_22 a0 8 15) (fun x88 =>
            Option.bind (e_aI h_22 x88 0 1) (fun x92 =>
            if (lg_cmp x56 (x92.toInt64)) < 0 then
              Option.bind (e_fA h_22 a0 8 16) (fun x101 =>
              Option.bind (e_wI h_22 x101 0 (((105 + (17 * a1)) + 1) + (2 * x4_22)) (x43.toInt32)) (fun h121 =>
              Option.bind (e_fA h121 a0 8 16) (fun x123 =>
              Option.bind (e_wI h121 x123 0 (((105 + (17 * a1)) + 2) + (2 * x4_22)) (x56.toInt32)) (fun h143 =>
              Option.bind (some (x4_22 + 1)) (fun x144 =>
              lp_X10_slide_22 F a0 a1 a2 a3 n x144 h143)))))
            else
              some (.error (1, h_22))))))))))))
def f_X10_slide (F : Nat) (h : e_H) (a0 : Nat) (a1 : Int32) (a2 : Int32) (a3 : Int32) : Option (Int32 × e_H) :=
  Option.bind (e_gI h a0 8 0 0) (fun h2 =>
  Option.bind (e_is h2 a0 8) (fun _ =>
  Option.bind (f_X10_isBand h2 a0 a1) (fun x7 =>
  if x7 = 0 then
    some ((-1), h2)
  else
    Option.bind (f_X10_layRead F h2 a0) (fun h16 =>
    e_bE (
        lp_X10_slide_22 F a0 a1 a2 a3 F 0 h16
      : Option (Except (Int32 × e_H) e_H)) (fun h150_1 =>
    Option.bind (e_is h150_1 a0 8) (fun _ =>
    e_b2 (f_X10_change F h150_1 a0 a1) (fun x152 h152 =>
    some (x152, h152))))))))
set_option maxHeartbeats 4000000 in
set_option maxRecDepth 100000 in
theorem ct_X10_slide {l : Launch} {D : e_D} {B : Heap} {F : Nat} {d : Nat} {h : e_H} {a0 : Nat} {a1 : Int32} {a2 : Int32} {a3 : Int32} {v : Int32} {h1 : e_H} (hd : 9 ≤ d) (e : f_X10_slide F h a0 a1 a2 a3 = some (v, h1)) : e_Run l D B d mX10_slide [.ref a0, .int a1, .int a2, .int a3] h (.ok (some (.int v)), h1) := by
  refine e_start [some (.ref a0), some (.int a1), some (.int a2), some (.int a3), none, none, none, none, none] (by decide) rfl rfl rfl (Nat.le_of_ble_eq_true rfl) (fun K hl0 hD0 hB0 hM hd0 hr => ?_)
  subst hl0 hD0 hB0 hd0
  have ho : (k_M K).1.cls = "PegBandsModel" := by rw [hM]; rfl
  have hT : (k_M K).2.2.2.1 = some (.int) := by rw [hM]
  refine (show Sx K cX10_slide 0 [some (.ref a0), some (.int a1), some (.int a2), some (.int a3), none, none, none, none, none] [] h (f_X10_slide F h a0 a1 a2 a3) (fun w => w = (v, h1)) from ?_) _ e rfl
  clear e
  unfold f_X10_slide
  refine S_aload_n (dc_X10_slide 0 rfl) rfl ?_
  refine S_iconst_ 0 (dc_X10_slide 1 rfl) rfl ?_
  refine S_putI (dc_X10_slide 2 rfl) ho fl_X10_94_8_0 (fun _ _ => rfl) (Or.inl rfl) rfl rfl (fun h2 e2 => ?_)
  refine S_aload_n (dc_X10_slide 3 rfl) rfl ?_
  refine S_iload_n (dc_X10_slide 4 rfl) rfl ?_
  refine Sx.ask (fun _ i7 => ?_)
  refine S_roI (d := k_d K - 1) (e_callV (b := a0) (As := [.int a1]) (rest := []) ok_X10_isBand rfl (Nat.le_of_ble_eq_true rfl) (dc_X10_slide 5 rfl) ho q1791 q1793 (show e_cl[8]? = some (RX10, TX10, 51) from rfl) (e_sel.of qs52) (e_is_of i7) rfl (Nat.le_of_ble_eq_true rfl)) (by omega) (fun _ e => ct_X10_isBand (by omega) e) (fun x7 e7 => ?_)
  refine S_if_ne 15 (dc_X10_slide 6 rfl) rfl (fun c10 => ?_) (fun c10 => ?_)
  · refine S_aload_n (dc_X10_slide 9 rfl) rfl ?_
    refine S_rwV (d := k_d K - 1) (e_callV (b := a0) (As := []) (rest := []) ok_X10_layRead rfl (Nat.le_of_ble_eq_true rfl) (dc_X10_slide 10 rfl) ho q1940 q1942 (show e_cl[8]? = some (RX10, TX10, 51) from rfl) (e_sel.of qs74) (e_is_of i7) rfl (Nat.le_of_ble_eq_true rfl)) (by omega) (fun _ e => ct_X10_layRead (by omega) e) (fun h16 e16 => ?_)
    refine S_iconst_ 0 (dc_X10_slide 11 rfl) rfl ?_
    refine S_istore (L' := [some (.ref a0), some (.int a1), some (.int a2), some (.int a3), some (.int 0), none, none, none, none]) (dc_X10_slide 12 rfl) rfl ?_
    refine Sx.regKE1 (pc2 := 150) (L2 := fun (h150_1 : e_H) => [some (.ref a0), some (.int a1), none, none, none, none, none, none, none]) (st2 := fun (h150_1 : e_H) => []) (h2 := fun (h150_1 : e_H) => h150_1) ?_ (fun Q1 hK1 hE1 => ?_)
    · intro h150_1
      show Sx K cX10_slide 150 [some (.ref a0), some (.int a1), none, none, none, none, none, none, none] [] h150_1 _ _
      refine S_aload_n (dc_X10_slide 96 rfl) rfl ?_
      refine S_iload_n (dc_X10_slide 97 rfl) rfl ?_
      refine Sx.ask (fun _ i152 => ?_)
      refine S_rwI (d := k_d K - 1) (e_callV (b := a0) (As := [.int a1]) (rest := []) ok_X10_change rfl (Nat.le_of_ble_eq_true rfl) (dc_X10_slide 98 rfl) ho q1944 q1946 (show e_cl[8]? = some (RX10, TX10, 51) from rfl) (e_sel.of qs75) (e_is_of i152) rfl (Nat.le_of_ble_eq_true rfl)) (by omega) (fun _ _ e => ct_X10_change (by omega) e) (fun x152 h152 e152 => ?_)
      exact S_iret (dc_X10_slide 99 rfl) hT rfl (e_rqI hr)
    · have hK1 : ∀ (h150_1 : e_H), Sx K cX10_slide 150 [some (.ref a0), some (.int a1), none, none, none, none, none, none, none] [] h150_1 (some (.ok h150_1)) Q1 := hK1
      have ih1 : ∀ (n : Nat) (x4_22 : Int32) (h_22 : e_H), Sx K cX10_slide 22 [some (.ref a0), some (.int a1), some (.int a2), some (.int a3), some (.int x4_22), none, none, none, none] [] h_22 (lp_X10_slide_22 F a0 a1 a2 a3 n x4_22 h_22) Q1 := by
        intro n
        induction n with
        | zero => intro x4_22 h_22; exact Sx.none
        | succ n ih1 =>
          intro x4_22 h_22
          rw [lp_X10_slide_22.eq_2]
          refine S_iload (dc_X10_slide 13 rfl) rfl ?_
          refine S_aload_n (dc_X10_slide 14 rfl) rfl ?_
          refine S_iload_n (dc_X10_slide 15 rfl) rfl ?_
          refine Sx.ask (fun _ i26 => ?_)
          refine S_roI (d := k_d K - 1) (e_callV (b := a0) (As := [.int a1]) (rest := [.int x4_22]) ok_X10_corners rfl (Nat.le_of_ble_eq_true rfl) (dc_X10_slide 16 rfl) ho q1803 q1805 (show e_cl[8]? = some (RX10, TX10, 51) from rfl) (e_sel.of qs55) (e_is_of i26) rfl (Nat.le_of_ble_eq_true rfl)) (by omega) (fun _ e => ct_X10_corners (by omega) e) (fun x26 e26 => ?_)
          refine S_icmp_ge 150 (dc_X10_slide 17 rfl) rfl (fun c29 => ?_) (fun c29 => ?_)
          · refine Sx.cut [true, true, false, false, false, true, true, true, true] ?_
            exact hK1 h_22
          · refine S_aload_n (dc_X10_slide 18 rfl) rfl ?_
            refine S_iload_n (dc_X10_slide 19 rfl) rfl ?_
            refine S_iload (dc_X10_slide 20 rfl) rfl ?_
            refine S_roI (d := k_d K - 1) (e_callV (b := a0) (As := [.int a1, .int x4_22]) (rest := []) ok_X10_x rfl (Nat.le_of_ble_eq_true rfl) (dc_X10_slide 21 rfl) ho q1815 q1817 (show e_cl[8]? = some (RX10, TX10, 51) from rfl) (e_sel.of qs58) (e_is_of i26) rfl (Nat.le_of_ble_eq_true rfl)) (by omega) (fun _ e => ct_X10_x (by omega) e) (fun x36 e36 => ?_)
            refine S_i2l (dc_X10_slide 22 rfl) ?_
            refine S_iload_n (dc_X10_slide 23 rfl) rfl ?_
            refine S_i2l (dc_X10_slide 24 rfl) ?_
            refine S_ladd (dc_X10_slide 25 rfl) ?_
            refine Sx.nameJ (fun x43 n43 => ?_)
            refine S_lstore (L' := [some (.ref a0), some (.int a1), some (.int a2), some (.int a3), some (.int x4_22), some (.long x43), none, none, none]) (dc_X10_slide 26 rfl) rfl ?_
            refine S_aload_n (dc_X10_slide 27 rfl) rfl ?_
            refine S_iload_n (dc_X10_slide 28 rfl) rfl ?_
            refine S_iload (dc_X10_slide 29 rfl) rfl ?_
            refine S_roI (d := k_d K - 1) (e_callV (b := a0) (As := [.int a1, .int x4_22]) (rest := []) ok_X10_y rfl (Nat.le_of_ble_eq_true rfl) (dc_X10_slide 30 rfl) ho q1819 q1821 (show e_cl[8]? = some (RX10, TX10, 51) from rfl) (e_sel.of qs59) (e_is_of i26) rfl (Nat.le_of_ble_eq_true rfl)) (by omega) (fun _ e => ct_X10_y (by omega) e) (fun x49 e49 => ?_)
            refine S_i2l (dc_X10_slide 31 rfl) ?_
            refine S_iload_n (dc_X10_slide 32 rfl) rfl ?_
            refine S_i2l (dc_X10_slide 33 rfl) ?_
            refine S_ladd (dc_X10_slide 34 rfl) ?_
            refine Sx.nameJ (fun x56 n56 => ?_)
            refine S_lstore (L' := [some (.ref a0), some (.int a1), some (.int a2), some (.int a3), some (.int x4_22), some (.long x43), none, some (.long x56), none]) (dc_X10_slide 35 rfl) rfl ?_
            refine S_lload (dc_X10_slide 36 rfl) rfl ?_
            refine S_lconst_ 0 (dc_X10_slide 37 rfl) rfl ?_
            refine S_lcmp (dc_X10_slide 38 rfl) ?_
            refine S_if_lt 98 (dc_X10_slide 39 rfl) rfl (fun c62 => ?_) (fun c62 => ?_)
            · refine S_iconst_ 1 (dc_X10_slide 60 rfl) rfl ?_
              refine Sx.err hE1 ?_
              exact S_iret (dc_X10_slide 61 rfl) hT rfl (e_rqI hr)
            · refine S_lload (dc_X10_slide 40 rfl) rfl ?_
              refine S_aload_n (dc_X10_slide 41 rfl) rfl ?_
              refine S_getA (dc_X10_slide 42 rfl) ho fl_X10_13_8_15 (fun _ _ => rfl) (fun x68 e68 => ?_)
              refine S_iconst_ 0 (dc_X10_slide 43 rfl) rfl ?_
              refine S_iald (dc_X10_slide 44 rfl) (fun x72 e72 => ?_)
              refine S_i2l (dc_X10_slide 45 rfl) ?_
              refine S_lcmp (dc_X10_slide 46 rfl) ?_
              refine S_if_ge 98 (dc_X10_slide 47 rfl) rfl (fun c75 => ?_) (fun c75 => ?_)
              · refine S_iconst_ 1 (dc_X10_slide 60 rfl) rfl ?_
                refine Sx.err hE1 ?_
                exact S_iret (dc_X10_slide 61 rfl) hT rfl (e_rqI hr)
              · refine S_lload (dc_X10_slide 48 rfl) rfl ?_
                refine S_lconst_ 0 (dc_X10_slide 49 rfl) rfl ?_
                refine S_lcmp (dc_X10_slide 50 rfl) ?_
                refine S_if_lt 98 (dc_X10_slide 51 rfl) rfl (fun c82 => ?_) (fun c82 => ?_)
                · refine S_iconst_ 1 (dc_X10_slide 60 rfl) rfl ?_
                  refine Sx.err hE1 ?_
                  exact S_iret (dc_X10_slide 61 rfl) hT rfl (e_rqI hr)
                · refine S_lload (dc_X10_slide 52 rfl) rfl ?_
                  refine S_aload_n (dc_X10_slide 53 rfl) rfl ?_
                  refine S_getA (dc_X10_slide 54 rfl) ho fl_X10_13_8_15 (fun _ _ => rfl) (fun x88 e88 => ?_)
                  refine S_iconst_ 1 (dc_X10_slide 55 rfl) rfl ?_
                  refine S_iald (dc_X10_slide 56 rfl) (fun x92 e92 => ?_)
                  refine S_i2l (dc_X10_slide 57 rfl) ?_
                  refine S_lcmp (dc_X10_slide 58 rfl) ?_
                  refine S_if_lt 100 (dc_X10_slide 59 rfl) rfl (fun c95 => ?_) (fun c95 => ?_)
                  · refine S_aload_n (dc_X10_slide 62 rfl) rfl ?_
                    refine S_getA (dc_X10_slide 63 rfl) ho fl_X10_16_8_16 (fun _ _ => rfl) (fun x101 e101 => ?_)
                    refine S_bipush_ 105 (dc_X10_slide 64 rfl) rfl ?_
                    refine S_bipush_ 17 (dc_X10_slide 65 rfl) rfl ?_
                    refine S_iload_n (dc_X10_slide 66 rfl) rfl ?_
                    refine S_imul (dc_X10_slide 67 rfl) ?_
                    refine S_iadd (dc_X10_slide 68 rfl) ?_
                    refine S_iconst_ 1 (dc_X10_slide 69 rfl) rfl ?_
                    refine S_iadd (dc_X10_slide 70 rfl) ?_
                    refine S_iconst_ 2 (dc_X10_slide 71 rfl) rfl ?_
                    refine S_iload (dc_X10_slide 72 rfl) rfl ?_
                    refine S_imul (dc_X10_slide 73 rfl) ?_
                    refine S_iadd (dc_X10_slide 74 rfl) ?_
                    refine S_lload (dc_X10_slide 75 rfl) rfl ?_
                    refine S_l2i (dc_X10_slide 76 rfl) ?_
                    refine S_iast (dc_X10_slide 77 rfl) (fun h121 e121 => ?_)
                    refine S_aload_n (dc_X10_slide 78 rfl) rfl ?_
                    refine S_getA (dc_X10_slide 79 rfl) ho fl_X10_16_8_16 (fun _ _ => rfl) (fun x123 e123 => ?_)
                    refine S_bipush_ 105 (dc_X10_slide 80 rfl) rfl ?_
                    refine S_bipush_ 17 (dc_X10_slide 81 rfl) rfl ?_
                    refine S_iload_n (dc_X10_slide 82 rfl) rfl ?_
                    refine S_imul (dc_X10_slide 83 rfl) ?_
                    refine S_iadd (dc_X10_slide 84 rfl) ?_
                    refine S_iconst_ 2 (dc_X10_slide 85 rfl) rfl ?_
                    refine S_iadd (dc_X10_slide 86 rfl) ?_
                    refine S_iconst_ 2 (dc_X10_slide 87 rfl) rfl ?_
                    refine S_iload (dc_X10_slide 88 rfl) rfl ?_
                    refine S_imul (dc_X10_slide 89 rfl) ?_
                    refine S_iadd (dc_X10_slide 90 rfl) ?_
                    refine S_lload (dc_X10_slide 91 rfl) rfl ?_
                    refine S_l2i (dc_X10_slide 92 rfl) ?_
                    refine S_iast (dc_X10_slide 93 rfl) (fun h143 e143 => ?_)
                    refine S_iincN 1 (L' := fun x144 => [some (.ref a0), some (.int a1), some (.int a2), some (.int a3), some (.int x144), some (.long x43), none, some (.long x56), none]) (dc_X10_slide 94 rfl) rfl rfl (fun _ => rfl) (fun x144 n144 => ?_)
                    refine S_goto 22 (dc_X10_slide 95 rfl) rfl ?_
                    refine Sx.cut [true, true, true, true, true, false, true, false, true] ?_
                    exact ih1 x144 h143
                  · refine S_iconst_ 1 (dc_X10_slide 60 rfl) rfl ?_
                    refine Sx.err hE1 ?_
                    exact S_iret (dc_X10_slide 61 rfl) hT rfl (e_rqI hr)
      exact ih1 F 0 h16
  · refine S_iconst_ (-1) (dc_X10_slide 7 rfl) rfl ?_
    exact S_iret (dc_X10_slide 8 rfl) hT rfl (e_rqI hr)
abbrev cX10_isFree : ByteArray := prog_18_method_91_code
def yX10_isFree : MethodName := ⟨"PegBandsModel", "isFree", "(II)Z"⟩
def tb_X10_isFree : List (Nat × Instr × Nat) := [(0, .iconst 0, 1), (1, .istore_n 3, 1), (2, .iload_n 3, 1), (3, .aload_n 0, 1), (4, .invokevirtual 276, 3), (7, .if_icmp .ge 32, 3), (10, .aload_n 0, 1), (11, .iload_n 3, 1), (12, .iload_n 1, 1), (13, .iload_n 2, 1), (14, .invokevirtual 323, 3), (17, .ifCond .ne 14, 3), (20, .aload_n 0, 1), (21, .iload_n 3, 1), (22, .iload_n 1, 1), (23, .iload_n 2, 1), (24, .iconst 1, 1), (25, .invokevirtual 326, 3), (28, .ifCond .eq 5, 3), (31, .iconst 0, 1), (32, .ireturn, 1), (33, .iinc 3 1, 3), (36, .goto (-34), 3), (39, .iconst 1, 1), (40, .ireturn, 1)]
theorem tk_X10_isFree : ∀ q ∈ tb_X10_isFree, decode cX10_isFree q.1 = .ok q.2 := by decide +kernel
theorem dc_X10_isFree (k : Nat) {pc n : Nat} {i : Instr} (h : tb_X10_isFree[k]? = some (pc, i, n)) : decode cX10_isFree pc = .ok (i, n) := tk_X10_isFree (pc, i, n) (List.mem_of_getElem? h)
abbrev mX10_isFree : e_M := (yX10_isFree, cX10_isFree, 4, some (.boolean), [])
theorem ok_X10_isFree : e_mok mX10_isFree 2 := ⟨q1967, q119, by decide +kernel, fun sig h => by cases h; rfl⟩
def lp_X10_isFree_2 (F : Nat) (h : e_H) (a0 : Nat) (a1 : Int32) (a2 : Int32) : Nat → Int32 → Option (Except Int32 Unit)
  | 0, _ => none
  | n + 1, x3_2 =>
    Option.bind (e_is h a0 8) (fun _ =>
    Option.bind (f_X10_bands h a0) (fun x4 =>
    if x4 ≤ x3_2 then
      some (.ok ())
    else
      Option.bind (f_X10_isOn F h a0 x3_2 a1 a2) (fun x14 =>
      if x14 = 0 then
        Option.bind (f_X10_encloses F h a0 x3_2 a1 a2 1) (fun x25 =>
        if x25 = 0 then
          Option.bind (some (x3_2 + 1)) (fun x33 =>
          lp_X10_isFree_2 F h a0 a1 a2 n x33)
        else
          some (.error 0))
      else
        some (.error 0))))
def f_X10_isFree (F : Nat) (h : e_H) (a0 : Nat) (a1 : Int32) (a2 : Int32) : Option Int32 :=
  e_bE (
      lp_X10_isFree_2 F h a0 a1 a2 F 0
    : Option (Except Int32 Unit)) (fun _ =>
  some 1)
set_option maxHeartbeats 4000000 in
set_option maxRecDepth 100000 in
theorem ct_X10_isFree {l : Launch} {D : e_D} {B : Heap} {F : Nat} {d : Nat} {h : e_H} {a0 : Nat} {a1 : Int32} {a2 : Int32} {v : Int32} (hd : 5 ≤ d) (e : f_X10_isFree F h a0 a1 a2 = some v) : e_Run l D B d mX10_isFree [.ref a0, .int a1, .int a2] h (.ok (some (.int v)), h) := by
  refine e_start [some (.ref a0), some (.int a1), some (.int a2), none] (by decide) rfl rfl rfl (Nat.le_of_ble_eq_true rfl) (fun K hl0 hD0 hB0 hM hd0 hr => ?_)
  subst hl0 hD0 hB0 hd0
  have ho : (k_M K).1.cls = "PegBandsModel" := by rw [hM]; rfl
  have hT : (k_M K).2.2.2.1 = some (.boolean) := by rw [hM]
  refine (show Sx K cX10_isFree 0 [some (.ref a0), some (.int a1), some (.int a2), none] [] h (f_X10_isFree F h a0 a1 a2) (fun w => w = v) from ?_) _ e rfl
  clear e
  unfold f_X10_isFree
  refine S_iconst_ 0 (dc_X10_isFree 0 rfl) rfl ?_
  refine S_istore_n (L' := [some (.ref a0), some (.int a1), some (.int a2), some (.int 0)]) (dc_X10_isFree 1 rfl) rfl ?_
  refine Sx.regKE0 (pc2 := 39) (L2 := [none, none, none, none]) (st2 := []) (h2 := h) ?_ (fun Q1 hK1 hE1 => ?_)
  · skip
    refine S_iconst_ 1 (dc_X10_isFree 23 rfl) rfl ?_
    exact S_iret (dc_X10_isFree 24 rfl) hT rfl (fun q => by cases q; exact hr)
  · have hK1 : Sx K cX10_isFree 39 [none, none, none, none] [] h (some (.ok ())) Q1 := hK1
    have ih1 : ∀ (n : Nat) (x3_2 : Int32), Sx K cX10_isFree 2 [some (.ref a0), some (.int a1), some (.int a2), some (.int x3_2)] [] h (lp_X10_isFree_2 F h a0 a1 a2 n x3_2) Q1 := by
      intro n
      induction n with
      | zero => intro x3_2; exact Sx.none
      | succ n ih1 =>
        intro x3_2
        rw [lp_X10_isFree_2.eq_2]
        refine S_iload_n (dc_X10_isFree 2 rfl) rfl ?_
        refine S_aload_n (dc_X10_isFree 3 rfl) rfl ?_
        refine Sx.ask (fun _ i4 => ?_)
        refine S_roI (d := k_d K - 1) (e_callV (b := a0) (As := []) (rest := [.int x3_2]) ok_X10_bands rfl (Nat.le_of_ble_eq_true rfl) (dc_X10_isFree 4 rfl) ho q1795 q1797 (show e_cl[8]? = some (RX10, TX10, 51) from rfl) (e_sel.of qs53) (e_is_of i4) rfl (Nat.le_of_ble_eq_true rfl)) (by omega) (fun _ e => ct_X10_bands (by omega) e) (fun x4 e4 => ?_)
        refine S_icmp_ge 39 (dc_X10_isFree 5 rfl) rfl (fun c7 => ?_) (fun c7 => ?_)
        · refine Sx.cut [false, false, false, false] ?_
          exact hK1
        · refine S_aload_n (dc_X10_isFree 6 rfl) rfl ?_
          refine S_iload_n (dc_X10_isFree 7 rfl) rfl ?_
          refine S_iload_n (dc_X10_isFree 8 rfl) rfl ?_
          refine S_iload_n (dc_X10_isFree 9 rfl) rfl ?_
          refine S_roI (d := k_d K - 1) (e_callV (b := a0) (As := [.int x3_2, .int a1, .int a2]) (rest := []) ok_X10_isOn rfl (Nat.le_of_ble_eq_true rfl) (dc_X10_isFree 10 rfl) ho q1865 q1867 (show e_cl[8]? = some (RX10, TX10, 51) from rfl) (e_sel.of qs66) (e_is_of i4) rfl (Nat.le_of_ble_eq_true rfl)) (by omega) (fun _ e => ct_X10_isOn (by omega) e) (fun x14 e14 => ?_)
          refine S_if_ne 31 (dc_X10_isFree 11 rfl) rfl (fun c17 => ?_) (fun c17 => ?_)
          · refine S_iconst_ 0 (dc_X10_isFree 19 rfl) rfl ?_
            refine Sx.err hE1 ?_
            exact S_iret (dc_X10_isFree 20 rfl) hT rfl (fun q => by cases q; exact hr)
          · refine S_aload_n (dc_X10_isFree 12 rfl) rfl ?_
            refine S_iload_n (dc_X10_isFree 13 rfl) rfl ?_
            refine S_iload_n (dc_X10_isFree 14 rfl) rfl ?_
            refine S_iload_n (dc_X10_isFree 15 rfl) rfl ?_
            refine S_iconst_ 1 (dc_X10_isFree 16 rfl) rfl ?_
            refine S_roI (d := k_d K - 1) (e_callV (b := a0) (As := [.int x3_2, .int a1, .int a2, .int 1]) (rest := []) ok_X10_encloses rfl (Nat.le_of_ble_eq_true rfl) (dc_X10_isFree 17 rfl) ho q1869 q1871 (show e_cl[8]? = some (RX10, TX10, 51) from rfl) (e_sel.of qs67) (e_is_of i4) rfl (Nat.le_of_ble_eq_true rfl)) (by omega) (fun _ e => ct_X10_encloses (by omega) e) (fun x25 e25 => ?_)
            refine S_if_eq 33 (dc_X10_isFree 18 rfl) rfl (fun c28 => ?_) (fun c28 => ?_)
            · refine S_iincN 1 (L' := fun x33 => [some (.ref a0), some (.int a1), some (.int a2), some (.int x33)]) (dc_X10_isFree 21 rfl) rfl rfl (fun _ => rfl) (fun x33 n33 => ?_)
              refine S_goto 2 (dc_X10_isFree 22 rfl) rfl ?_
              exact ih1 x33
            · refine S_iconst_ 0 (dc_X10_isFree 19 rfl) rfl ?_
              refine Sx.err hE1 ?_
              exact S_iret (dc_X10_isFree 20 rfl) hT rfl (fun q => by cases q; exact hr)
    exact ih1 F 0
abbrev cX10_freeMany : ByteArray := prog_18_method_92_code
def yX10_freeMany : MethodName := ⟨"PegBandsModel", "freeMany", "()I"⟩
def tb_X10_freeMany : List (Nat × Instr × Nat) := [(0, .iconst 0, 1), (1, .istore_n 1, 1), (2, .iconst 0, 1), (3, .istore_n 2, 1), (4, .iload_n 2, 1), (5, .bipush 100, 2), (7, .if_icmp .ge 45, 3), (10, .aload_n 0, 1), (11, .getfield 13, 3), (14, .iload_n 2, 1), (15, .bipush 10, 2), (17, .irem, 1), (18, .iload_n 2, 1), (19, .bipush 10, 2), (21, .idiv, 1), (22, .invokestatic 226, 3), (25, .ifCond .eq 21, 3), (28, .aload_n 0, 1), (29, .iload_n 2, 1), (30, .bipush 10, 2), (32, .irem, 1), (33, .iload_n 2, 1), (34, .bipush 10, 2), (36, .idiv, 1), (37, .invokevirtual 371, 3), (40, .ifCond .eq 6, 3), (43, .iinc 1 1, 3), (46, .iinc 2 1, 3), (49, .goto (-45), 3), (52, .iload_n 1, 1), (53, .ireturn, 1)]
theorem tk_X10_freeMany : ∀ q ∈ tb_X10_freeMany, decode cX10_freeMany q.1 = .ok q.2 := by decide +kernel
theorem dc_X10_freeMany (k : Nat) {pc n : Nat} {i : Instr} (h : tb_X10_freeMany[k]? = some (pc, i, n)) : decode cX10_freeMany pc = .ok (i, n) := tk_X10_freeMany (pc, i, n) (List.mem_of_getElem? h)
abbrev mX10_freeMany : e_M := (yX10_freeMany, cX10_freeMany, 3, some (.int), [])
theorem ok_X10_freeMany : e_mok mX10_freeMany 0 := ⟨q1963, q119, by decide +kernel, fun sig h => by cases h; rfl⟩
def lp_X10_freeMany_4 (F : Nat) (h : e_H) (a0 : Nat) : Nat → Int32 → Int32 → Option (Int32)
  | 0, _, _ => none
  | n + 1, x1_4, x2_4 =>
    if 100 ≤ x2_4 then
      some x1_4
    else
      Option.bind (e_fA h a0 8 15) (fun x11 =>
      Option.bind (f_X10_isPeg h x11 (x2_4 - x2_4 / 10 * 10) (x2_4 / 10)) (fun x22 =>
      Option.bind (
          if x22 = 0 then
            some x1_4
          else
            Option.bind (f_X10_isFree F h a0 (x2_4 - x2_4 / 10 * 10) (x2_4 / 10)) (fun x37 =>
            if x37 = 0 then
              some x1_4
            else
              Option.bind (some (x1_4 + 1)) (fun x43 =>
              some x43))
        : Option (Int32)) (fun x1_46_2 =>
      Option.bind (some (x2_4 + 1)) (fun x46 =>
      lp_X10_freeMany_4 F h a0 n x1_46_2 x46))))
def f_X10_freeMany (F : Nat) (h : e_H) (a0 : Nat) : Option Int32 :=
  Option.bind (
      lp_X10_freeMany_4 F h a0 F 0 0
    : Option (Int32)) (fun x1_52_1 =>
  some x1_52_1)
set_option maxHeartbeats 4000000 in
set_option maxRecDepth 100000 in
theorem ct_X10_freeMany {l : Launch} {D : e_D} {B : Heap} {F : Nat} {d : Nat} {h : e_H} {a0 : Nat} {v : Int32} (hd : 6 ≤ d) (e : f_X10_freeMany F h a0 = some v) : e_Run l D B d mX10_freeMany [.ref a0] h (.ok (some (.int v)), h) := by
  refine e_start [some (.ref a0), none, none] (by decide) rfl rfl rfl (Nat.le_of_ble_eq_true rfl) (fun K hl0 hD0 hB0 hM hd0 hr => ?_)
  subst hl0 hD0 hB0 hd0
  have ho : (k_M K).1.cls = "PegBandsModel" := by rw [hM]; rfl
  have hT : (k_M K).2.2.2.1 = some (.int) := by rw [hM]
  refine (show Sx K cX10_freeMany 0 [some (.ref a0), none, none] [] h (f_X10_freeMany F h a0) (fun w => w = v) from ?_) _ e rfl
  clear e
  unfold f_X10_freeMany
  refine S_iconst_ 0 (dc_X10_freeMany 0 rfl) rfl ?_
  refine S_istore_n (L' := [some (.ref a0), some (.int 0), none]) (dc_X10_freeMany 1 rfl) rfl ?_
  refine S_iconst_ 0 (dc_X10_freeMany 2 rfl) rfl ?_
  refine S_istore_n (L' := [some (.ref a0), some (.int 0), some (.int 0)]) (dc_X10_freeMany 3 rfl) rfl ?_
  refine Sx.regK1 (pc2 := 52) (L2 := fun (x1_52_1 : Int32) => [none, some (.int x1_52_1), none]) (st2 := fun (x1_52_1 : Int32) => []) (h2 := fun (x1_52_1 : Int32) => h) ?_ (fun Q1 hK1 => ?_)
  · intro x1_52_1
    show Sx K cX10_freeMany 52 [none, some (.int x1_52_1), none] [] h _ _
    refine S_iload_n (dc_X10_freeMany 29 rfl) rfl ?_
    exact S_iret (dc_X10_freeMany 30 rfl) hT rfl (fun q => by cases q; exact hr)
  · have hK1 : ∀ (x1_52_1 : Int32), Sx K cX10_freeMany 52 [none, some (.int x1_52_1), none] [] h (some x1_52_1) Q1 := hK1
    have ih1 : ∀ (n : Nat) (x1_4 : Int32) (x2_4 : Int32), Sx K cX10_freeMany 4 [some (.ref a0), some (.int x1_4), some (.int x2_4)] [] h (lp_X10_freeMany_4 F h a0 n x1_4 x2_4) Q1 := by
      intro n
      induction n with
      | zero => intro x1_4 x2_4; exact Sx.none
      | succ n ih1 =>
        intro x1_4 x2_4
        rw [lp_X10_freeMany_4.eq_2]
        refine S_iload_n (dc_X10_freeMany 4 rfl) rfl ?_
        refine S_bipush_ 100 (dc_X10_freeMany 5 rfl) rfl ?_
        refine S_icmp_ge 52 (dc_X10_freeMany 6 rfl) rfl (fun c7 => ?_) (fun c7 => ?_)
        · refine Sx.cut [false, true, false] ?_
          exact hK1 x1_4
        · refine S_aload_n (dc_X10_freeMany 7 rfl) rfl ?_
          refine S_getA (dc_X10_freeMany 8 rfl) ho fl_X10_13_8_15 (fun _ _ => rfl) (fun x11 e11 => ?_)
          refine S_iload_n (dc_X10_freeMany 9 rfl) rfl ?_
          refine S_bipush_ 10 (dc_X10_freeMany 10 rfl) rfl ?_
          refine S_irem (dc_X10_freeMany 11 rfl) (by decide) ?_
          refine S_iload_n (dc_X10_freeMany 12 rfl) rfl ?_
          refine S_bipush_ 10 (dc_X10_freeMany 13 rfl) rfl ?_
          refine S_idiv (dc_X10_freeMany 14 rfl) (by decide) ?_
          refine S_roI (d := k_d K - 1) (e_callS (As := [.ref x11, .int (x2_4 - x2_4 / 10 * 10), .int (x2_4 / 10)]) (rest := []) ok_X10_isPeg rfl (Nat.le_of_ble_eq_true rfl) (dc_X10_freeMany 15 rfl) ho q1741 q1742 rfl (Nat.le_of_ble_eq_true rfl)) (by omega) (fun _ e => ct_X10_isPeg (by omega) e) (fun x22 e22 => ?_)
          refine Sx.regK1 (pc2 := 46) (L2 := fun (x1_46_2 : Int32) => [some (.ref a0), some (.int x1_46_2), some (.int x2_4)]) (st2 := fun (x1_46_2 : Int32) => []) (h2 := fun (x1_46_2 : Int32) => h) ?_ (fun Q2 hK2 => ?_)
          · intro x1_46_2
            show Sx K cX10_freeMany 46 [some (.ref a0), some (.int x1_46_2), some (.int x2_4)] [] h _ _
            refine S_iincN 1 (L' := fun x46 => [some (.ref a0), some (.int x1_46_2), some (.int x46)]) (dc_X10_freeMany 27 rfl) rfl rfl (fun _ => rfl) (fun x46 n46 => ?_)
            refine S_goto 4 (dc_X10_freeMany 28 rfl) rfl ?_
            exact ih1 x1_46_2 x46
          · have hK2 : ∀ (x1_46_2 : Int32), Sx K cX10_freeMany 46 [some (.ref a0), some (.int x1_46_2), some (.int x2_4)] [] h (some x1_46_2) Q2 := hK2
            refine S_if_eq 46 (dc_X10_freeMany 16 rfl) rfl (fun c25 => ?_) (fun c25 => ?_)
            · exact hK2 x1_4
            · refine S_aload_n (dc_X10_freeMany 17 rfl) rfl ?_
              refine S_iload_n (dc_X10_freeMany 18 rfl) rfl ?_
              refine S_bipush_ 10 (dc_X10_freeMany 19 rfl) rfl ?_
              refine S_irem (dc_X10_freeMany 20 rfl) (by decide) ?_
              refine S_iload_n (dc_X10_freeMany 21 rfl) rfl ?_
              refine S_bipush_ 10 (dc_X10_freeMany 22 rfl) rfl ?_
              refine S_idiv (dc_X10_freeMany 23 rfl) (by decide) ?_
              refine S_roI (d := k_d K - 1) (e_callV (b := a0) (As := [.int (x2_4 - x2_4 / 10 * 10), .int (x2_4 / 10)]) (rest := []) ok_X10_isFree rfl (Nat.le_of_ble_eq_true rfl) (dc_X10_freeMany 24 rfl) ho q1964 q1966 (show e_cl[8]? = some (RX10, TX10, 51) from rfl) (e_sel.of qs78) (e_fA_of e11).1 rfl (Nat.le_of_ble_eq_true rfl)) (by omega) (fun _ e => ct_X10_isFree (by omega) e) (fun x37 e37 => ?_)
              refine S_if_eq 46 (dc_X10_freeMany 25 rfl) rfl (fun c40 => ?_) (fun c40 => ?_)
              · exact hK2 x1_4
              · refine S_iincN 1 (L' := fun x43 => [some (.ref a0), some (.int x43), some (.int x2_4)]) (dc_X10_freeMany 26 rfl) rfl rfl (fun _ => rfl) (fun x43 n43 => ?_)
                exact hK2 x43
    exact ih1 F 0 0
abbrev cX10_free : ByteArray := prog_18_method_93_code
def yX10_free : MethodName := ⟨"PegBandsModel", "free", "()I"⟩
def tb_X10_free : List (Nat × Instr × Nat) := [(0, .aload_n 0, 1), (1, .iconst 0, 1), (2, .putfield 94, 3), (5, .aload_n 0, 1), (6, .invokevirtual 374, 3), (9, .ireturn, 1)]
theorem tk_X10_free : ∀ q ∈ tb_X10_free, decode cX10_free q.1 = .ok q.2 := by decide +kernel
theorem dc_X10_free (k : Nat) {pc n : Nat} {i : Instr} (h : tb_X10_free[k]? = some (pc, i, n)) : decode cX10_free pc = .ok (i, n) := tk_X10_free (pc, i, n) (List.mem_of_getElem? h)
abbrev mX10_free : e_M := (yX10_free, cX10_free, 1, some (.int), [])
theorem ok_X10_free : e_mok mX10_free 0 := ⟨q1959, q119, by decide +kernel, fun sig h => by cases h; rfl⟩
def f_X10_free (F : Nat) (h : e_H) (a0 : Nat) : Option (Int32 × e_H) :=
  Option.bind (e_gI h a0 8 0 0) (fun h2 =>
  Option.bind (e_is h2 a0 8) (fun _ =>
  Option.bind (f_X10_freeMany F h2 a0) (fun x6 =>
  some (x6, h2))))
set_option maxHeartbeats 4000000 in
set_option maxRecDepth 100000 in
theorem ct_X10_free {l : Launch} {D : e_D} {B : Heap} {F : Nat} {d : Nat} {h : e_H} {a0 : Nat} {v : Int32} {h1 : e_H} (hd : 7 ≤ d) (e : f_X10_free F h a0 = some (v, h1)) : e_Run l D B d mX10_free [.ref a0] h (.ok (some (.int v)), h1) := by
  refine e_start [some (.ref a0)] (by decide) rfl rfl rfl (Nat.le_of_ble_eq_true rfl) (fun K hl0 hD0 hB0 hM hd0 hr => ?_)
  subst hl0 hD0 hB0 hd0
  have ho : (k_M K).1.cls = "PegBandsModel" := by rw [hM]; rfl
  have hT : (k_M K).2.2.2.1 = some (.int) := by rw [hM]
  refine (show Sx K cX10_free 0 [some (.ref a0)] [] h (f_X10_free F h a0) (fun w => w = (v, h1)) from ?_) _ e rfl
  clear e
  unfold f_X10_free
  refine S_aload_n (dc_X10_free 0 rfl) rfl ?_
  refine S_iconst_ 0 (dc_X10_free 1 rfl) rfl ?_
  refine S_putI (dc_X10_free 2 rfl) ho fl_X10_94_8_0 (fun _ _ => rfl) (Or.inl rfl) rfl rfl (fun h2 e2 => ?_)
  refine S_aload_n (dc_X10_free 3 rfl) rfl ?_
  refine Sx.ask (fun _ i6 => ?_)
  refine S_roI (d := k_d K - 1) (e_callV (b := a0) (As := []) (rest := []) ok_X10_freeMany rfl (Nat.le_of_ble_eq_true rfl) (dc_X10_free 4 rfl) ho q1960 q1962 (show e_cl[8]? = some (RX10, TX10, 51) from rfl) (e_sel.of qs77) (e_is_of i6) rfl (Nat.le_of_ble_eq_true rfl)) (by omega) (fun _ e => ct_X10_freeMany (by omega) e) (fun x6 e6 => ?_)
  exact S_iret (dc_X10_free 5 rfl) hT rfl (e_rqI hr)
abbrev cX10_snap : ByteArray := prog_18_method_94_code
def yX10_snap : MethodName := ⟨"PegBandsModel", "snap", "(I)I"⟩
def tb_X10_snap : List (Nat × Instr × Nat) := [(0, .aload_n 0, 1), (1, .iconst 0, 1), (2, .putfield 94, 3), (5, .aload_n 0, 1), (6, .iload_n 1, 1), (7, .invokevirtual 304, 3), (10, .ifCond .ne 5, 3), (13, .iconst (-1), 1), (14, .ireturn, 1), (15, .aload_n 0, 1), (16, .invokevirtual 374, 3), (19, .istore_n 2, 1), (20, .aload_n 0, 1), (21, .invokevirtual 362, 3), (24, .iload_n 1, 1), (25, .istore_n 3, 1), (26, .iload_n 3, 1), (27, .aload_n 0, 1), (28, .invokevirtual 276, 3), (31, .iconst 1, 1), (32, .isub, 1), (33, .if_icmp .ge 72, 3), (36, .iconst 0, 1), (37, .istore 4, 2), (39, .iload 4, 2), (41, .bipush 17, 2), (43, .if_icmp .ge 42, 3), (46, .aload_n 0, 1), (47, .getfield 13, 3), (50, .bipush 105, 2), (52, .bipush 17, 2), (54, .iload_n 3, 1), (55, .imul, 1), (56, .iadd, 1), (57, .iload 4, 2), (59, .iadd, 1), (60, .aload_n 0, 1), (61, .getfield 13, 3), (64, .bipush 105, 2), (66, .bipush 17, 2), (68, .iload_n 3, 1), (69, .imul, 1), (70, .iadd, 1), (71, .bipush 17, 2), (73, .iadd, 1), (74, .iload 4, 2), (76, .iadd, 1), (77, .iaload, 1), (78, .iastore, 1), (79, .iinc 4 1, 3), (82, .goto (-43), 3), (85, .aload_n 0, 1), (86, .getfield 28, 3), (89, .iload_n 3, 1), (90, .aload_n 0, 1), (91, .getfield 28, 3), (94, .iload_n 3, 1), (95, .iconst 1, 1), (96, .iadd, 1), (97, .laload, 1), (98, .lastore, 1), (99, .iinc 3 1, 3), (102, .goto (-76), 3), (105, .aload_n 0, 1), (106, .getfield 13, 3), (109, .iconst 4, 1), (110, .dup2, 1), (111, .iaload, 1), (112, .iconst 1, 1), (113, .isub, 1), (114, .iastore, 1), (115, .aload_n 0, 1), (116, .invokevirtual 374, 3), (119, .iload_n 2, 1), (120, .isub, 1), (121, .ireturn, 1)]
theorem tk_X10_snap : ∀ q ∈ tb_X10_snap, decode cX10_snap q.1 = .ok q.2 := by decide +kernel
theorem dc_X10_snap (k : Nat) {pc n : Nat} {i : Instr} (h : tb_X10_snap[k]? = some (pc, i, n)) : decode cX10_snap pc = .ok (i, n) := tk_X10_snap (pc, i, n) (List.mem_of_getElem? h)
abbrev mX10_snap : e_M := (yX10_snap, cX10_snap, 5, some (.int), [])
theorem ok_X10_snap : e_mok mX10_snap 1 := ⟨q1971, q119, by decide +kernel, fun sig h => by cases h; rfl⟩
def lp_X10_snap_39 (F : Nat) (a0 : Nat) (x3_26 : Int32) : Nat → Int32 → e_H → Option (e_H)
  | 0, _, _ => none
  | n + 1, x4_39, h_39 =>
    if 17 ≤ x4_39 then
      some h_39
    else
      Option.bind (e_fA h_39 a0 8 15) (fun x47 =>
      Option.bind (e_fA h_39 a0 8 15) (fun x61 =>
      Option.bind (e_aI h_39 x61 0 (((105 + (17 * x3_26)) + 17) + x4_39)) (fun x77 =>
      Option.bind (e_wI h_39 x47 0 ((105 + (17 * x3_26)) + x4_39) x77) (fun h78 =>
      Option.bind (some (x4_39 + 1)) (fun x79 =>
      lp_X10_snap_39 F a0 x3_26 n x79 h78)))))
def lp_X10_snap_26 (F : Nat) (a0 : Nat) : Nat → Int32 → e_H → Option (e_H)
  | 0, _, _ => none
  | n + 1, x3_26, h_26 =>
    Option.bind (e_is h_26 a0 8) (fun _ =>
    Option.bind (f_X10_bands h_26 a0) (fun x28 =>
    if (x28 - 1) ≤ x3_26 then
      some h_26
    else
      Option.bind (
          lp_X10_snap_39 F a0 x3_26 F 0 h_26
        : Option (e_H)) (fun h85_2 =>
      Option.bind (e_fA h85_2 a0 8 20) (fun x86 =>
      Option.bind (e_fA h85_2 a0 8 20) (fun x91 =>
      Option.bind (e_aJ h85_2 x91 3 (x3_26 + 1)) (fun x97 =>
      Option.bind (e_wJ h85_2 x86 3 x3_26 x97) (fun h98 =>
      Option.bind (some (x3_26 + 1)) (fun x99 =>
      lp_X10_snap_26 F a0 n x99 h98))))))))
def f_X10_snap (F : Nat) (h : e_H) (a0 : Nat) (a1 : Int32) : Option (Int32 × e_H) :=
  Option.bind (e_gI h a0 8 0 0) (fun h2 =>
  Option.bind (e_is h2 a0 8) (fun _ =>
  Option.bind (f_X10_isBand h2 a0 a1) (fun x7 =>
  if x7 = 0 then
    some ((-1), h2)
  else
    Option.bind (f_X10_freeMany F h2 a0) (fun x16 =>
    Option.bind (f_X10_snapShot F h2 a0) (fun h21 =>
    Option.bind (
        lp_X10_snap_26 F a0 F a1 h21
      : Option (e_H)) (fun h105_1 =>
    Option.bind (e_fA h105_1 a0 8 15) (fun x106 =>
    Option.bind (e_aI h105_1 x106 0 4) (fun x111 =>
    Option.bind (e_wI h105_1 x106 0 4 (x111 - 1)) (fun h114 =>
    Option.bind (e_is h114 a0 8) (fun _ =>
    Option.bind (f_X10_freeMany F h114 a0) (fun x116 =>
    some ((x116 - x16), h114))))))))))))
set_option maxHeartbeats 4000000 in
set_option maxRecDepth 100000 in
theorem ct_X10_snap {l : Launch} {D : e_D} {B : Heap} {F : Nat} {d : Nat} {h : e_H} {a0 : Nat} {a1 : Int32} {v : Int32} {h1 : e_H} (hd : 7 ≤ d) (e : f_X10_snap F h a0 a1 = some (v, h1)) : e_Run l D B d mX10_snap [.ref a0, .int a1] h (.ok (some (.int v)), h1) := by
  refine e_start [some (.ref a0), some (.int a1), none, none, none] (by decide) rfl rfl rfl (Nat.le_of_ble_eq_true rfl) (fun K hl0 hD0 hB0 hM hd0 hr => ?_)
  subst hl0 hD0 hB0 hd0
  have ho : (k_M K).1.cls = "PegBandsModel" := by rw [hM]; rfl
  have hT : (k_M K).2.2.2.1 = some (.int) := by rw [hM]
  refine (show Sx K cX10_snap 0 [some (.ref a0), some (.int a1), none, none, none] [] h (f_X10_snap F h a0 a1) (fun w => w = (v, h1)) from ?_) _ e rfl
  clear e
  unfold f_X10_snap
  refine S_aload_n (dc_X10_snap 0 rfl) rfl ?_
  refine S_iconst_ 0 (dc_X10_snap 1 rfl) rfl ?_
  refine S_putI (dc_X10_snap 2 rfl) ho fl_X10_94_8_0 (fun _ _ => rfl) (Or.inl rfl) rfl rfl (fun h2 e2 => ?_)
  refine S_aload_n (dc_X10_snap 3 rfl) rfl ?_
  refine S_iload_n (dc_X10_snap 4 rfl) rfl ?_
  refine Sx.ask (fun _ i7 => ?_)
  refine S_roI (d := k_d K - 1) (e_callV (b := a0) (As := [.int a1]) (rest := []) ok_X10_isBand rfl (Nat.le_of_ble_eq_true rfl) (dc_X10_snap 5 rfl) ho q1791 q1793 (show e_cl[8]? = some (RX10, TX10, 51) from rfl) (e_sel.of qs52) (e_is_of i7) rfl (Nat.le_of_ble_eq_true rfl)) (by omega) (fun _ e => ct_X10_isBand (by omega) e) (fun x7 e7 => ?_)
  refine S_if_ne 15 (dc_X10_snap 6 rfl) rfl (fun c10 => ?_) (fun c10 => ?_)
  · refine S_aload_n (dc_X10_snap 9 rfl) rfl ?_
    refine S_roI (d := k_d K - 1) (e_callV (b := a0) (As := []) (rest := []) ok_X10_freeMany rfl (Nat.le_of_ble_eq_true rfl) (dc_X10_snap 10 rfl) ho q1960 q1962 (show e_cl[8]? = some (RX10, TX10, 51) from rfl) (e_sel.of qs77) (e_is_of i7) rfl (Nat.le_of_ble_eq_true rfl)) (by omega) (fun _ e => ct_X10_freeMany (by omega) e) (fun x16 e16 => ?_)
    refine S_istore_n (L' := [some (.ref a0), some (.int a1), some (.int x16), none, none]) (dc_X10_snap 11 rfl) rfl ?_
    refine S_aload_n (dc_X10_snap 12 rfl) rfl ?_
    refine S_rwV (d := k_d K - 1) (e_callV (b := a0) (As := []) (rest := []) ok_X10_snapShot rfl (Nat.le_of_ble_eq_true rfl) (dc_X10_snap 13 rfl) ho q1948 q1950 (show e_cl[8]? = some (RX10, TX10, 51) from rfl) (e_sel.of qs76) (e_is_of i7) rfl (Nat.le_of_ble_eq_true rfl)) (by omega) (fun _ e => ct_X10_snapShot (by omega) e) (fun h21 e21 => ?_)
    refine S_iload_n (dc_X10_snap 14 rfl) rfl ?_
    refine S_istore_n (L' := [some (.ref a0), some (.int a1), some (.int x16), some (.int a1), none]) (dc_X10_snap 15 rfl) rfl ?_
    refine Sx.regK1 (pc2 := 105) (L2 := fun (h105_1 : e_H) => [some (.ref a0), none, some (.int x16), none, none]) (st2 := fun (h105_1 : e_H) => []) (h2 := fun (h105_1 : e_H) => h105_1) ?_ (fun Q1 hK1 => ?_)
    · intro h105_1
      show Sx K cX10_snap 105 [some (.ref a0), none, some (.int x16), none, none] [] h105_1 _ _
      refine S_aload_n (dc_X10_snap 63 rfl) rfl ?_
      refine S_getA (dc_X10_snap 64 rfl) ho fl_X10_13_8_15 (fun _ _ => rfl) (fun x106 e106 => ?_)
      refine S_iconst_ 4 (dc_X10_snap 65 rfl) rfl ?_
      refine S_dup2 (dc_X10_snap 66 rfl) rfl rfl ?_
      refine S_iald (dc_X10_snap 67 rfl) (fun x111 e111 => ?_)
      refine S_iconst_ 1 (dc_X10_snap 68 rfl) rfl ?_
      refine S_isub (dc_X10_snap 69 rfl) ?_
      refine S_iast (dc_X10_snap 70 rfl) (fun h114 e114 => ?_)
      refine S_aload_n (dc_X10_snap 71 rfl) rfl ?_
      refine Sx.ask (fun _ i116 => ?_)
      refine S_roI (d := k_d K - 1) (e_callV (b := a0) (As := []) (rest := []) ok_X10_freeMany rfl (Nat.le_of_ble_eq_true rfl) (dc_X10_snap 72 rfl) ho q1960 q1962 (show e_cl[8]? = some (RX10, TX10, 51) from rfl) (e_sel.of qs77) (e_is_of i116) rfl (Nat.le_of_ble_eq_true rfl)) (by omega) (fun _ e => ct_X10_freeMany (by omega) e) (fun x116 e116 => ?_)
      refine S_iload_n (dc_X10_snap 73 rfl) rfl ?_
      refine S_isub (dc_X10_snap 74 rfl) ?_
      exact S_iret (dc_X10_snap 75 rfl) hT rfl (e_rqI hr)
    · have hK1 : ∀ (h105_1 : e_H), Sx K cX10_snap 105 [some (.ref a0), none, some (.int x16), none, none] [] h105_1 (some h105_1) Q1 := hK1
      have ih1 : ∀ (n : Nat) (x3_26 : Int32) (h_26 : e_H), Sx K cX10_snap 26 [some (.ref a0), none, some (.int x16), some (.int x3_26), none] [] h_26 (lp_X10_snap_26 F a0 n x3_26 h_26) Q1 := by
        intro n
        induction n with
        | zero => intro x3_26 h_26; exact Sx.none
        | succ n ih1 =>
          intro x3_26 h_26
          rw [lp_X10_snap_26.eq_2]
          refine S_iload_n (dc_X10_snap 16 rfl) rfl ?_
          refine S_aload_n (dc_X10_snap 17 rfl) rfl ?_
          refine Sx.ask (fun _ i28 => ?_)
          refine S_roI (d := k_d K - 1) (e_callV (b := a0) (As := []) (rest := [.int x3_26]) ok_X10_bands rfl (Nat.le_of_ble_eq_true rfl) (dc_X10_snap 18 rfl) ho q1795 q1797 (show e_cl[8]? = some (RX10, TX10, 51) from rfl) (e_sel.of qs53) (e_is_of i28) rfl (Nat.le_of_ble_eq_true rfl)) (by omega) (fun _ e => ct_X10_bands (by omega) e) (fun x28 e28 => ?_)
          refine S_iconst_ 1 (dc_X10_snap 19 rfl) rfl ?_
          refine S_isub (dc_X10_snap 20 rfl) ?_
          refine S_icmp_ge 105 (dc_X10_snap 21 rfl) rfl (fun c33 => ?_) (fun c33 => ?_)
          · refine Sx.cut [true, true, true, false, true] ?_
            exact hK1 h_26
          · refine S_iconst_ 0 (dc_X10_snap 22 rfl) rfl ?_
            refine S_istore (L' := [some (.ref a0), none, some (.int x16), some (.int x3_26), some (.int 0)]) (dc_X10_snap 23 rfl) rfl ?_
            refine Sx.regK1 (pc2 := 85) (L2 := fun (h85_2 : e_H) => [some (.ref a0), none, some (.int x16), some (.int x3_26), none]) (st2 := fun (h85_2 : e_H) => []) (h2 := fun (h85_2 : e_H) => h85_2) ?_ (fun Q2 hK2 => ?_)
            · intro h85_2
              show Sx K cX10_snap 85 [some (.ref a0), none, some (.int x16), some (.int x3_26), none] [] h85_2 _ _
              refine S_aload_n (dc_X10_snap 51 rfl) rfl ?_
              refine S_getA (dc_X10_snap 52 rfl) ho fl_X10_28_8_20 (fun _ _ => rfl) (fun x86 e86 => ?_)
              refine S_iload_n (dc_X10_snap 53 rfl) rfl ?_
              refine S_aload_n (dc_X10_snap 54 rfl) rfl ?_
              refine S_getA (dc_X10_snap 55 rfl) ho fl_X10_28_8_20 (fun _ _ => rfl) (fun x91 e91 => ?_)
              refine S_iload_n (dc_X10_snap 56 rfl) rfl ?_
              refine S_iconst_ 1 (dc_X10_snap 57 rfl) rfl ?_
              refine S_iadd (dc_X10_snap 58 rfl) ?_
              refine S_lald (dc_X10_snap 59 rfl) (fun x97 e97 => ?_)
              refine S_last (dc_X10_snap 60 rfl) (fun h98 e98 => ?_)
              refine S_iincN 1 (L' := fun x99 => [some (.ref a0), none, some (.int x16), some (.int x99), none]) (dc_X10_snap 61 rfl) rfl rfl (fun _ => rfl) (fun x99 n99 => ?_)
              refine S_goto 26 (dc_X10_snap 62 rfl) rfl ?_
              exact ih1 x99 h98
            · have hK2 : ∀ (h85_2 : e_H), Sx K cX10_snap 85 [some (.ref a0), none, some (.int x16), some (.int x3_26), none] [] h85_2 (some h85_2) Q2 := hK2
              have ih2 : ∀ (n : Nat) (x4_39 : Int32) (h_39 : e_H), Sx K cX10_snap 39 [some (.ref a0), none, some (.int x16), some (.int x3_26), some (.int x4_39)] [] h_39 (lp_X10_snap_39 F a0 x3_26 n x4_39 h_39) Q2 := by
                intro n
                induction n with
                | zero => intro x4_39 h_39; exact Sx.none
                | succ n ih2 =>
                  intro x4_39 h_39
                  rw [lp_X10_snap_39.eq_2]
                  refine S_iload (dc_X10_snap 24 rfl) rfl ?_
                  refine S_bipush_ 17 (dc_X10_snap 25 rfl) rfl ?_
                  refine S_icmp_ge 85 (dc_X10_snap 26 rfl) rfl (fun c43 => ?_) (fun c43 => ?_)
                  · refine Sx.cut [true, true, true, true, false] ?_
                    exact hK2 h_39
                  · refine S_aload_n (dc_X10_snap 27 rfl) rfl ?_
                    refine S_getA (dc_X10_snap 28 rfl) ho fl_X10_13_8_15 (fun _ _ => rfl) (fun x47 e47 => ?_)
                    refine S_bipush_ 105 (dc_X10_snap 29 rfl) rfl ?_
                    refine S_bipush_ 17 (dc_X10_snap 30 rfl) rfl ?_
                    refine S_iload_n (dc_X10_snap 31 rfl) rfl ?_
                    refine S_imul (dc_X10_snap 32 rfl) ?_
                    refine S_iadd (dc_X10_snap 33 rfl) ?_
                    refine S_iload (dc_X10_snap 34 rfl) rfl ?_
                    refine S_iadd (dc_X10_snap 35 rfl) ?_
                    refine S_aload_n (dc_X10_snap 36 rfl) rfl ?_
                    refine S_getA (dc_X10_snap 37 rfl) ho fl_X10_13_8_15 (fun _ _ => rfl) (fun x61 e61 => ?_)
                    refine S_bipush_ 105 (dc_X10_snap 38 rfl) rfl ?_
                    refine S_bipush_ 17 (dc_X10_snap 39 rfl) rfl ?_
                    refine S_iload_n (dc_X10_snap 40 rfl) rfl ?_
                    refine S_imul (dc_X10_snap 41 rfl) ?_
                    refine S_iadd (dc_X10_snap 42 rfl) ?_
                    refine S_bipush_ 17 (dc_X10_snap 43 rfl) rfl ?_
                    refine S_iadd (dc_X10_snap 44 rfl) ?_
                    refine S_iload (dc_X10_snap 45 rfl) rfl ?_
                    refine S_iadd (dc_X10_snap 46 rfl) ?_
                    refine S_iald (dc_X10_snap 47 rfl) (fun x77 e77 => ?_)
                    refine S_iast (dc_X10_snap 48 rfl) (fun h78 e78 => ?_)
                    refine S_iincN 1 (L' := fun x79 => [some (.ref a0), none, some (.int x16), some (.int x3_26), some (.int x79)]) (dc_X10_snap 49 rfl) rfl rfl (fun _ => rfl) (fun x79 n79 => ?_)
                    refine S_goto 39 (dc_X10_snap 50 rfl) rfl ?_
                    exact ih2 x79 h78
              exact ih2 F 0 h_26
      refine Sx.cut [true, false, true, true, true] ?_
      exact ih1 F a1 h21
  · refine S_iconst_ (-1) (dc_X10_snap 7 rfl) rfl ?_
    exact S_iret (dc_X10_snap 8 rfl) hT rfl (e_rqI hr)
abbrev cX10_readAt : ByteArray := prog_18_method_97_code
def yX10_readAt : MethodName := ⟨"PegBandsModel", "readAt", "()Z"⟩
def tb_X10_readAt : List (Nat × Instr × Nat) := [(0, .aload_n 0, 1), (1, .iconst 4, 1), (2, .invokevirtual 252, 3), (5, .ifCond .ne 9, 3), (8, .aload_n 0, 1), (9, .iconst 1, 1), (10, .invokevirtual 165, 3), (13, .ireturn, 1), (14, .aload_n 0, 1), (15, .invokevirtual 179, 3), (18, .aload_n 0, 1), (19, .iconst 0, 1), (20, .aload_n 0, 1), (21, .getfield 13, 3), (24, .iconst 0, 1), (25, .iaload, 1), (26, .iconst 1, 1), (27, .isub, 1), (28, .invokevirtual 235, 3), (31, .ifCond .ne 5, 3), (34, .iconst 0, 1), (35, .ireturn, 1), (36, .aload_n 0, 1), (37, .getfield 19, 3), (40, .iconst 0, 1), (41, .aload_n 0, 1), (42, .getfield 172, 3), (45, .iastore, 1), (46, .aload_n 0, 1), (47, .iconst 0, 1), (48, .aload_n 0, 1), (49, .getfield 13, 3), (52, .iconst 1, 1), (53, .iaload, 1), (54, .iconst 1, 1), (55, .isub, 1), (56, .invokevirtual 235, 3), (59, .ifCond .ne 5, 3), (62, .iconst 0, 1), (63, .ireturn, 1), (64, .aload_n 0, 1), (65, .getfield 19, 3), (68, .iconst 1, 1), (69, .aload_n 0, 1), (70, .getfield 172, 3), (73, .iastore, 1), (74, .aload_n 0, 1), (75, .invokevirtual 255, 3), (78, .ireturn, 1)]
theorem tk_X10_readAt : ∀ q ∈ tb_X10_readAt, decode cX10_readAt q.1 = .ok q.2 := by decide +kernel
theorem dc_X10_readAt (k : Nat) {pc n : Nat} {i : Instr} (h : tb_X10_readAt[k]? = some (pc, i, n)) : decode cX10_readAt pc = .ok (i, n) := tk_X10_readAt (pc, i, n) (List.mem_of_getElem? h)
abbrev mX10_readAt : e_M := (yX10_readAt, cX10_readAt, 1, some (.boolean), [])
theorem ok_X10_readAt : e_mok mX10_readAt 0 := ⟨q1979, q119, by decide +kernel, fun sig h => by cases h; rfl⟩
def f_X10_readAt (F : Nat) (h : e_H) (a0 : Nat) : Option (Int32 × e_H) :=
  Option.bind (e_is h a0 8) (fun _ =>
  Option.bind (f_X10_isWord h a0 4) (fun x2 =>
  if x2 = 0 then
    e_b2 (f_X10_bad h a0 1) (fun x10 h10 =>
    if x10 = 0 ∨ x10 = 1 then some (x10, h10) else none)
  else
    Option.bind (f_X10_go F h a0) (fun h15 =>
    Option.bind (e_fA h15 a0 8 15) (fun x21 =>
    Option.bind (e_aI h15 x21 0 0) (fun x25 =>
    e_b2 (f_X10_readNumber F h15 a0 0 (x25 - 1)) (fun x28 h28 =>
    if x28 = 0 then
      some (0, h28)
    else
      Option.bind (e_fA h28 a0 8 17) (fun x37 =>
      Option.bind (e_fI h28 a0 8 14) (fun x42 =>
      Option.bind (e_wI h28 x37 0 0 x42) (fun h45 =>
      Option.bind (e_fA h45 a0 8 15) (fun x49 =>
      Option.bind (e_aI h45 x49 0 1) (fun x53 =>
      e_b2 (f_X10_readNumber F h45 a0 0 (x53 - 1)) (fun x56 h56 =>
      if x56 = 0 then
        some (0, h56)
      else
        Option.bind (e_fA h56 a0 8 17) (fun x65 =>
        Option.bind (e_fI h56 a0 8 14) (fun x70 =>
        Option.bind (e_wI h56 x65 0 1 x70) (fun h73 =>
        Option.bind (e_is h73 a0 8) (fun _ =>
        e_b2 (f_X10_readEnd F h73 a0) (fun x75 h75 =>
        if x75 = 0 ∨ x75 = 1 then some (x75, h75) else none)))))))))))))))))
set_option maxHeartbeats 4000000 in
set_option maxRecDepth 100000 in
theorem ct_X10_readAt {l : Launch} {D : e_D} {B : Heap} {F : Nat} {d : Nat} {h : e_H} {a0 : Nat} {v : Int32} {h1 : e_H} (hd : 4 ≤ d) (e : f_X10_readAt F h a0 = some (v, h1)) : e_Run l D B d mX10_readAt [.ref a0] h (.ok (some (.int v)), h1) := by
  refine e_start [some (.ref a0)] (by decide) rfl rfl rfl (Nat.le_of_ble_eq_true rfl) (fun K hl0 hD0 hB0 hM hd0 hr => ?_)
  subst hl0 hD0 hB0 hd0
  have ho : (k_M K).1.cls = "PegBandsModel" := by rw [hM]; rfl
  have hT : (k_M K).2.2.2.1 = some (.boolean) := by rw [hM]
  refine (show Sx K cX10_readAt 0 [some (.ref a0)] [] h (f_X10_readAt F h a0) (fun w => w = (v, h1)) from ?_) _ e rfl
  clear e
  unfold f_X10_readAt
  refine S_aload_n (dc_X10_readAt 0 rfl) rfl ?_
  refine S_iconst_ 4 (dc_X10_readAt 1 rfl) rfl ?_
  refine Sx.ask (fun _ i2 => ?_)
  refine S_roI (d := k_d K - 1) (e_callV (b := a0) (As := [.int 4]) (rest := []) ok_X10_isWord rfl (Nat.le_of_ble_eq_true rfl) (dc_X10_readAt 2 rfl) ho q1674 q1676 (show e_cl[8]? = some (RX10, TX10, 51) from rfl) (e_sel.of qs41) (e_is_of i2) rfl (Nat.le_of_ble_eq_true rfl)) (by omega) (fun _ e => ct_X10_isWord (by omega) e) (fun x2 e2 => ?_)
  refine S_if_ne 14 (dc_X10_readAt 3 rfl) rfl (fun c5 => ?_) (fun c5 => ?_)
  · refine S_aload_n (dc_X10_readAt 8 rfl) rfl ?_
    refine S_rwV (d := k_d K - 1) (e_callV (b := a0) (As := []) (rest := []) ok_X10_go rfl (Nat.le_of_ble_eq_true rfl) (dc_X10_readAt 9 rfl) ho q1654 q1656 (show e_cl[8]? = some (RX10, TX10, 51) from rfl) (e_sel.of qs38) (e_is_of i2) rfl (Nat.le_of_ble_eq_true rfl)) (by omega) (fun _ e => ct_X10_go (by omega) e) (fun h15 e15 => ?_)
    refine S_aload_n (dc_X10_readAt 10 rfl) rfl ?_
    refine S_iconst_ 0 (dc_X10_readAt 11 rfl) rfl ?_
    refine S_aload_n (dc_X10_readAt 12 rfl) rfl ?_
    refine S_getA (dc_X10_readAt 13 rfl) ho fl_X10_13_8_15 (fun _ _ => rfl) (fun x21 e21 => ?_)
    refine S_iconst_ 0 (dc_X10_readAt 14 rfl) rfl ?_
    refine S_iald (dc_X10_readAt 15 rfl) (fun x25 e25 => ?_)
    refine S_iconst_ 1 (dc_X10_readAt 16 rfl) rfl ?_
    refine S_isub (dc_X10_readAt 17 rfl) ?_
    refine S_rwI (d := k_d K - 1) (e_callV (b := a0) (As := [.int 0, .int (x25 - 1)]) (rest := []) ok_X10_readNumber rfl (Nat.le_of_ble_eq_true rfl) (dc_X10_readAt 18 rfl) ho q1691 q1693 (show e_cl[8]? = some (RX10, TX10, 51) from rfl) (e_sel.of qs43) (e_fA_of e21).1 rfl (Nat.le_of_ble_eq_true rfl)) (by omega) (fun _ _ e => ct_X10_readNumber (by omega) e) (fun x28 h28 e28 => ?_)
    refine S_if_ne 36 (dc_X10_readAt 19 rfl) rfl (fun c31 => ?_) (fun c31 => ?_)
    · refine S_aload_n (dc_X10_readAt 22 rfl) rfl ?_
      refine S_getA (dc_X10_readAt 23 rfl) ho fl_X10_19_8_17 (fun _ _ => rfl) (fun x37 e37 => ?_)
      refine S_iconst_ 0 (dc_X10_readAt 24 rfl) rfl ?_
      refine S_aload_n (dc_X10_readAt 25 rfl) rfl ?_
      refine S_getI (dc_X10_readAt 26 rfl) ho fl_X10_172_8_14 (fun _ _ => rfl) (fun x42 e42 => ?_)
      refine S_iast (dc_X10_readAt 27 rfl) (fun h45 e45 => ?_)
      refine S_aload_n (dc_X10_readAt 28 rfl) rfl ?_
      refine S_iconst_ 0 (dc_X10_readAt 29 rfl) rfl ?_
      refine S_aload_n (dc_X10_readAt 30 rfl) rfl ?_
      refine S_getA (dc_X10_readAt 31 rfl) ho fl_X10_13_8_15 (fun _ _ => rfl) (fun x49 e49 => ?_)
      refine S_iconst_ 1 (dc_X10_readAt 32 rfl) rfl ?_
      refine S_iald (dc_X10_readAt 33 rfl) (fun x53 e53 => ?_)
      refine S_iconst_ 1 (dc_X10_readAt 34 rfl) rfl ?_
      refine S_isub (dc_X10_readAt 35 rfl) ?_
      refine S_rwI (d := k_d K - 1) (e_callV (b := a0) (As := [.int 0, .int (x53 - 1)]) (rest := []) ok_X10_readNumber rfl (Nat.le_of_ble_eq_true rfl) (dc_X10_readAt 36 rfl) ho q1691 q1693 (show e_cl[8]? = some (RX10, TX10, 51) from rfl) (e_sel.of qs43) (e_fA_of e49).1 rfl (Nat.le_of_ble_eq_true rfl)) (by omega) (fun _ _ e => ct_X10_readNumber (by omega) e) (fun x56 h56 e56 => ?_)
      refine S_if_ne 64 (dc_X10_readAt 37 rfl) rfl (fun c59 => ?_) (fun c59 => ?_)
      · refine S_aload_n (dc_X10_readAt 40 rfl) rfl ?_
        refine S_getA (dc_X10_readAt 41 rfl) ho fl_X10_19_8_17 (fun _ _ => rfl) (fun x65 e65 => ?_)
        refine S_iconst_ 1 (dc_X10_readAt 42 rfl) rfl ?_
        refine S_aload_n (dc_X10_readAt 43 rfl) rfl ?_
        refine S_getI (dc_X10_readAt 44 rfl) ho fl_X10_172_8_14 (fun _ _ => rfl) (fun x70 e70 => ?_)
        refine S_iast (dc_X10_readAt 45 rfl) (fun h73 e73 => ?_)
        refine S_aload_n (dc_X10_readAt 46 rfl) rfl ?_
        refine Sx.ask (fun _ i75 => ?_)
        refine S_rwI (d := k_d K - 1) (e_callV (b := a0) (As := []) (rest := []) ok_X10_readEnd rfl (Nat.le_of_ble_eq_true rfl) (dc_X10_readAt 47 rfl) ho q1702 q1704 (show e_cl[8]? = some (RX10, TX10, 51) from rfl) (e_sel.of qs45) (e_is_of i75) rfl (Nat.le_of_ble_eq_true rfl)) (by omega) (fun _ _ e => ct_X10_readEnd (by omega) e) (fun x75 h75 e75 => ?_)
        refine Sx.cond (fun c78 => ?_)
        exact S_iret (dc_X10_readAt 48 rfl) hT (e_narZ c78).1 (e_rqI hr)
      · refine S_iconst_ 0 (dc_X10_readAt 38 rfl) rfl ?_
        exact S_iret (dc_X10_readAt 39 rfl) hT rfl (e_rqI hr)
    · refine S_iconst_ 0 (dc_X10_readAt 20 rfl) rfl ?_
      exact S_iret (dc_X10_readAt 21 rfl) hT rfl (e_rqI hr)
  · refine S_aload_n (dc_X10_readAt 4 rfl) rfl ?_
    refine S_iconst_ 1 (dc_X10_readAt 5 rfl) rfl ?_
    refine S_rwI (d := k_d K - 1) (e_callV (b := a0) (As := [.int 1]) (rest := []) ok_X10_bad rfl (Nat.le_of_ble_eq_true rfl) (dc_X10_readAt 6 rfl) ho q1687 q1689 (show e_cl[8]? = some (RX10, TX10, 51) from rfl) (e_sel.of qs42) (e_is_of i2) rfl (Nat.le_of_ble_eq_true rfl)) (by omega) (fun _ _ e => ct_X10_bad (by omega) e) (fun x10 h10 e10 => ?_)
    refine Sx.cond (fun c13 => ?_)
    exact S_iret (dc_X10_readAt 7 rfl) hT (e_narZ c13).1 (e_rqI hr)
abbrev cX10_readSigned : ByteArray := prog_18_method_95_code
def yX10_readSigned : MethodName := ⟨"PegBandsModel", "readSigned", "()Z"⟩
def tb_X10_readSigned : List (Nat × Instr × Nat) := [(0, .aload_n 0, 1), (1, .bipush 45, 2), (3, .invokevirtual 182, 3), (6, .istore_n 1, 1), (7, .iload_n 1, 1), (8, .ifCond .eq 7, 3), (11, .aload_n 0, 1), (12, .invokevirtual 179, 3), (15, .aload_n 0, 1), (16, .iconst 0, 1), (17, .bipush 9, 2), (19, .invokevirtual 235, 3), (22, .ifCond .ne 5, 3), (25, .iconst 0, 1), (26, .ireturn, 1), (27, .aload_n 0, 1), (28, .iload_n 1, 1), (29, .ifCond .eq 11, 3), (32, .aload_n 0, 1), (33, .getfield 172, 3), (36, .ineg, 1), (37, .goto 7, 3), (40, .aload_n 0, 1), (41, .getfield 172, 3), (44, .putfield 172, 3), (47, .iconst 1, 1), (48, .ireturn, 1)]
theorem tk_X10_readSigned : ∀ q ∈ tb_X10_readSigned, decode cX10_readSigned q.1 = .ok q.2 := by decide +kernel
theorem dc_X10_readSigned (k : Nat) {pc n : Nat} {i : Instr} (h : tb_X10_readSigned[k]? = some (pc, i, n)) : decode cX10_readSigned pc = .ok (i, n) := tk_X10_readSigned (pc, i, n) (List.mem_of_getElem? h)
abbrev mX10_readSigned : e_M := (yX10_readSigned, cX10_readSigned, 2, some (.boolean), [])
theorem ok_X10_readSigned : e_mok mX10_readSigned 0 := ⟨q1987, q119, by decide +kernel, fun sig h => by cases h; rfl⟩
def f_X10_readSigned (F : Nat) (h : e_H) (a0 : Nat) : Option (Int32 × e_H) :=
  Option.bind (e_is h a0 8) (fun _ =>
  Option.bind (f_X10_isSign h a0 45) (fun x3 =>
  Option.bind (
      if x3 = 0 then
        some h
      else
        Option.bind (f_X10_go F h a0) (fun h12 =>
        some h12)
    : Option (e_H)) (fun h15_1 =>
  Option.bind (e_is h15_1 a0 8) (fun _ =>
  e_b2 (f_X10_readNumber F h15_1 a0 0 9) (fun x19 h19 =>
  if x19 = 0 then
    some (0, h19)
  else
    Option.bind (
        if x3 = 0 then
          Option.bind (e_fI h19 a0 8 14) (fun x41 =>
          some x41)
        else
          Option.bind (e_fI h19 a0 8 14) (fun x33 =>
          some (-x33))
      : Option (Int32)) (fun s44_2 =>
    Option.bind (e_gI h19 a0 8 14 s44_2) (fun h44 =>
    some (1, h44))))))))
set_option maxHeartbeats 4000000 in
set_option maxRecDepth 100000 in
theorem ct_X10_readSigned {l : Launch} {D : e_D} {B : Heap} {F : Nat} {d : Nat} {h : e_H} {a0 : Nat} {v : Int32} {h1 : e_H} (hd : 4 ≤ d) (e : f_X10_readSigned F h a0 = some (v, h1)) : e_Run l D B d mX10_readSigned [.ref a0] h (.ok (some (.int v)), h1) := by
  refine e_start [some (.ref a0), none] (by decide) rfl rfl rfl (Nat.le_of_ble_eq_true rfl) (fun K hl0 hD0 hB0 hM hd0 hr => ?_)
  subst hl0 hD0 hB0 hd0
  have ho : (k_M K).1.cls = "PegBandsModel" := by rw [hM]; rfl
  have hT : (k_M K).2.2.2.1 = some (.boolean) := by rw [hM]
  refine (show Sx K cX10_readSigned 0 [some (.ref a0), none] [] h (f_X10_readSigned F h a0) (fun w => w = (v, h1)) from ?_) _ e rfl
  clear e
  unfold f_X10_readSigned
  refine S_aload_n (dc_X10_readSigned 0 rfl) rfl ?_
  refine S_bipush_ 45 (dc_X10_readSigned 1 rfl) rfl ?_
  refine Sx.ask (fun _ i3 => ?_)
  refine S_roI (d := k_d K - 1) (e_callV (b := a0) (As := [.int 45]) (rest := []) ok_X10_isSign rfl (Nat.le_of_ble_eq_true rfl) (dc_X10_readSigned 2 rfl) ho q1706 q1708 (show e_cl[8]? = some (RX10, TX10, 51) from rfl) (e_sel.of qs46) (e_is_of i3) rfl (Nat.le_of_ble_eq_true rfl)) (by omega) (fun _ e => ct_X10_isSign (by omega) e) (fun x3 e3 => ?_)
  refine S_istore_n (L' := [some (.ref a0), some (.int x3)]) (dc_X10_readSigned 3 rfl) rfl ?_
  refine S_iload_n (dc_X10_readSigned 4 rfl) rfl ?_
  refine Sx.regK1 (pc2 := 15) (L2 := fun (h15_1 : e_H) => [some (.ref a0), some (.int x3)]) (st2 := fun (h15_1 : e_H) => []) (h2 := fun (h15_1 : e_H) => h15_1) ?_ (fun Q1 hK1 => ?_)
  · intro h15_1
    show Sx K cX10_readSigned 15 [some (.ref a0), some (.int x3)] [] h15_1 _ _
    refine S_aload_n (dc_X10_readSigned 8 rfl) rfl ?_
    refine S_iconst_ 0 (dc_X10_readSigned 9 rfl) rfl ?_
    refine S_bipush_ 9 (dc_X10_readSigned 10 rfl) rfl ?_
    refine Sx.ask (fun _ i19 => ?_)
    refine S_rwI (d := k_d K - 1) (e_callV (b := a0) (As := [.int 0, .int 9]) (rest := []) ok_X10_readNumber rfl (Nat.le_of_ble_eq_true rfl) (dc_X10_readSigned 11 rfl) ho q1691 q1693 (show e_cl[8]? = some (RX10, TX10, 51) from rfl) (e_sel.of qs43) (e_is_of i19) rfl (Nat.le_of_ble_eq_true rfl)) (by omega) (fun _ _ e => ct_X10_readNumber (by omega) e) (fun x19 h19 e19 => ?_)
    refine S_if_ne 27 (dc_X10_readSigned 12 rfl) rfl (fun c22 => ?_) (fun c22 => ?_)
    · refine S_aload_n (dc_X10_readSigned 15 rfl) rfl ?_
      refine S_iload_n (dc_X10_readSigned 16 rfl) rfl ?_
      refine Sx.regK1 (pc2 := 44) (L2 := fun (s44_2 : Int32) => [none, none]) (st2 := fun (s44_2 : Int32) => [.int s44_2, .ref a0]) (h2 := fun (s44_2 : Int32) => h19) ?_ (fun Q2 hK2 => ?_)
      · intro s44_2
        show Sx K cX10_readSigned 44 [none, none] [.int s44_2, .ref a0] h19 _ _
        refine S_putI (dc_X10_readSigned 24 rfl) ho fl_X10_172_8_14 (fun _ _ => rfl) (Or.inl rfl) rfl rfl (fun h44 e44 => ?_)
        refine S_iconst_ 1 (dc_X10_readSigned 25 rfl) rfl ?_
        exact S_iret (dc_X10_readSigned 26 rfl) hT rfl (e_rqI hr)
      · have hK2 : ∀ (s44_2 : Int32), Sx K cX10_readSigned 44 [none, none] [.int s44_2, .ref a0] h19 (some s44_2) Q2 := hK2
        refine S_if_eq 40 (dc_X10_readSigned 17 rfl) rfl (fun c29 => ?_) (fun c29 => ?_)
        · refine S_aload_n (dc_X10_readSigned 22 rfl) rfl ?_
          refine S_getI (dc_X10_readSigned 23 rfl) ho fl_X10_172_8_14 (fun _ _ => rfl) (fun x41 e41 => ?_)
          refine Sx.cut [false, false] ?_
          exact hK2 x41
        · refine S_aload_n (dc_X10_readSigned 18 rfl) rfl ?_
          refine S_getI (dc_X10_readSigned 19 rfl) ho fl_X10_172_8_14 (fun _ _ => rfl) (fun x33 e33 => ?_)
          refine S_ineg (dc_X10_readSigned 20 rfl) ?_
          refine S_goto 44 (dc_X10_readSigned 21 rfl) rfl ?_
          refine Sx.cut [false, false] ?_
          exact hK2 (-x33)
    · refine S_iconst_ 0 (dc_X10_readSigned 13 rfl) rfl ?_
      exact S_iret (dc_X10_readSigned 14 rfl) hT rfl (e_rqI hr)
  · have hK1 : ∀ (h15_1 : e_H), Sx K cX10_readSigned 15 [some (.ref a0), some (.int x3)] [] h15_1 (some h15_1) Q1 := hK1
    refine S_if_eq 15 (dc_X10_readSigned 5 rfl) rfl (fun c8 => ?_) (fun c8 => ?_)
    · exact hK1 h
    · refine S_aload_n (dc_X10_readSigned 6 rfl) rfl ?_
      refine S_rwV (d := k_d K - 1) (e_callV (b := a0) (As := []) (rest := []) ok_X10_go rfl (Nat.le_of_ble_eq_true rfl) (dc_X10_readSigned 7 rfl) ho q1654 q1656 (show e_cl[8]? = some (RX10, TX10, 51) from rfl) (e_sel.of qs38) (e_is_of i3) rfl (Nat.le_of_ble_eq_true rfl)) (by omega) (fun _ e => ct_X10_go (by omega) e) (fun h12 e12 => ?_)
      exact hK1 h12
abbrev cX10_readBy : ByteArray := prog_18_method_96_code
def yX10_readBy : MethodName := ⟨"PegBandsModel", "readBy", "()Z"⟩
def tb_X10_readBy : List (Nat × Instr × Nat) := [(0, .aload_n 0, 1), (1, .iconst 5, 1), (2, .invokevirtual 252, 3), (5, .ifCond .ne 9, 3), (8, .aload_n 0, 1), (9, .iconst 1, 1), (10, .invokevirtual 165, 3), (13, .ireturn, 1), (14, .aload_n 0, 1), (15, .getfield 377, 3), (18, .bipush 8, 2), (20, .if_icmp .ne 9, 3), (23, .aload_n 0, 1), (24, .iconst 4, 1), (25, .invokevirtual 165, 3), (28, .ireturn, 1), (29, .aload_n 0, 1), (30, .invokevirtual 179, 3), (33, .aload_n 0, 1), (34, .invokevirtual 380, 3), (37, .ifCond .ne 5, 3), (40, .iconst 0, 1), (41, .ireturn, 1), (42, .aload_n 0, 1), (43, .getfield 19, 3), (46, .iconst 2, 1), (47, .iconst 2, 1), (48, .aload_n 0, 1), (49, .getfield 377, 3), (52, .imul, 1), (53, .iadd, 1), (54, .aload_n 0, 1), (55, .getfield 172, 3), (58, .iastore, 1), (59, .aload_n 0, 1), (60, .invokevirtual 380, 3), (63, .ifCond .ne 5, 3), (66, .iconst 0, 1), (67, .ireturn, 1), (68, .aload_n 0, 1), (69, .getfield 19, 3), (72, .iconst 3, 1), (73, .iconst 2, 1), (74, .aload_n 0, 1), (75, .getfield 377, 3), (78, .imul, 1), (79, .iadd, 1), (80, .aload_n 0, 1), (81, .getfield 172, 3), (84, .iastore, 1), (85, .aload_n 0, 1), (86, .invokevirtual 255, 3), (89, .ifCond .ne 5, 3), (92, .iconst 0, 1), (93, .ireturn, 1), (94, .aload_n 0, 1), (95, .dup, 1), (96, .getfield 377, 3), (99, .iconst 1, 1), (100, .iadd, 1), (101, .putfield 377, 3), (104, .iconst 1, 1), (105, .ireturn, 1)]
theorem tk_X10_readBy : ∀ q ∈ tb_X10_readBy, decode cX10_readBy q.1 = .ok q.2 := by decide +kernel
theorem dc_X10_readBy (k : Nat) {pc n : Nat} {i : Instr} (h : tb_X10_readBy[k]? = some (pc, i, n)) : decode cX10_readBy pc = .ok (i, n) := tk_X10_readBy (pc, i, n) (List.mem_of_getElem? h)
abbrev mX10_readBy : e_M := (yX10_readBy, cX10_readBy, 1, some (.boolean), [])
theorem ok_X10_readBy : e_mok mX10_readBy 0 := ⟨q1983, q119, by decide +kernel, fun sig h => by cases h; rfl⟩
theorem fl_X10_377_8_34 : e_FL "PegBandsModel" 377 8 34 := ⟨_, rfl, by decide, Or.inl q1505⟩
def f_X10_readBy (F : Nat) (h : e_H) (a0 : Nat) : Option (Int32 × e_H) :=
  Option.bind (e_is h a0 8) (fun _ =>
  Option.bind (f_X10_isWord h a0 5) (fun x2 =>
  if x2 = 0 then
    e_b2 (f_X10_bad h a0 1) (fun x10 h10 =>
    if x10 = 0 ∨ x10 = 1 then some (x10, h10) else none)
  else
    Option.bind (e_fI h a0 8 34) (fun x15 =>
    if x15 = 8 then
      e_b2 (f_X10_bad h a0 4) (fun x25 h25 =>
      if x25 = 0 ∨ x25 = 1 then some (x25, h25) else none)
    else
      Option.bind (f_X10_go F h a0) (fun h30 =>
      Option.bind (e_is h30 a0 8) (fun _ =>
      e_b2 (f_X10_readSigned F h30 a0) (fun x34 h34 =>
      if x34 = 0 then
        some (0, h34)
      else
        Option.bind (e_fA h34 a0 8 17) (fun x43 =>
        Option.bind (e_fI h34 a0 8 34) (fun x49 =>
        Option.bind (e_fI h34 a0 8 14) (fun x55 =>
        Option.bind (e_wI h34 x43 0 (2 + (2 * x49)) x55) (fun h58 =>
        Option.bind (e_is h58 a0 8) (fun _ =>
        e_b2 (f_X10_readSigned F h58 a0) (fun x60 h60 =>
        if x60 = 0 then
          some (0, h60)
        else
          Option.bind (e_fA h60 a0 8 17) (fun x69 =>
          Option.bind (e_fI h60 a0 8 34) (fun x75 =>
          Option.bind (e_fI h60 a0 8 14) (fun x81 =>
          Option.bind (e_wI h60 x69 0 (3 + (2 * x75)) x81) (fun h84 =>
          Option.bind (e_is h84 a0 8) (fun _ =>
          e_b2 (f_X10_readEnd F h84 a0) (fun x86 h86 =>
          if x86 = 0 then
            some (0, h86)
          else
            Option.bind (e_fI h86 a0 8 34) (fun x96 =>
            Option.bind (e_gI h86 a0 8 34 (x96 + 1)) (fun h101 =>
            some (1, h101)))))))))))))))))))))
set_option maxHeartbeats 4000000 in
set_option maxRecDepth 100000 in
theorem ct_X10_readBy {l : Launch} {D : e_D} {B : Heap} {F : Nat} {d : Nat} {h : e_H} {a0 : Nat} {v : Int32} {h1 : e_H} (hd : 5 ≤ d) (e : f_X10_readBy F h a0 = some (v, h1)) : e_Run l D B d mX10_readBy [.ref a0] h (.ok (some (.int v)), h1) := by
  refine e_start [some (.ref a0)] (by decide) rfl rfl rfl (Nat.le_of_ble_eq_true rfl) (fun K hl0 hD0 hB0 hM hd0 hr => ?_)
  subst hl0 hD0 hB0 hd0
  have ho : (k_M K).1.cls = "PegBandsModel" := by rw [hM]; rfl
  have hT : (k_M K).2.2.2.1 = some (.boolean) := by rw [hM]
  refine (show Sx K cX10_readBy 0 [some (.ref a0)] [] h (f_X10_readBy F h a0) (fun w => w = (v, h1)) from ?_) _ e rfl
  clear e
  unfold f_X10_readBy
  refine S_aload_n (dc_X10_readBy 0 rfl) rfl ?_
  refine S_iconst_ 5 (dc_X10_readBy 1 rfl) rfl ?_
  refine Sx.ask (fun _ i2 => ?_)
  refine S_roI (d := k_d K - 1) (e_callV (b := a0) (As := [.int 5]) (rest := []) ok_X10_isWord rfl (Nat.le_of_ble_eq_true rfl) (dc_X10_readBy 2 rfl) ho q1674 q1676 (show e_cl[8]? = some (RX10, TX10, 51) from rfl) (e_sel.of qs41) (e_is_of i2) rfl (Nat.le_of_ble_eq_true rfl)) (by omega) (fun _ e => ct_X10_isWord (by omega) e) (fun x2 e2 => ?_)
  refine S_if_ne 14 (dc_X10_readBy 3 rfl) rfl (fun c5 => ?_) (fun c5 => ?_)
  · refine S_aload_n (dc_X10_readBy 8 rfl) rfl ?_
    refine S_getI (dc_X10_readBy 9 rfl) ho fl_X10_377_8_34 (fun _ _ => rfl) (fun x15 e15 => ?_)
    refine S_bipush_ 8 (dc_X10_readBy 10 rfl) rfl ?_
    refine S_icmp_ne 29 (dc_X10_readBy 11 rfl) rfl (fun c20 => ?_) (fun c20 => ?_)
    · refine S_aload_n (dc_X10_readBy 16 rfl) rfl ?_
      refine S_rwV (d := k_d K - 1) (e_callV (b := a0) (As := []) (rest := []) ok_X10_go rfl (Nat.le_of_ble_eq_true rfl) (dc_X10_readBy 17 rfl) ho q1654 q1656 (show e_cl[8]? = some (RX10, TX10, 51) from rfl) (e_sel.of qs38) (e_is_of i2) rfl (Nat.le_of_ble_eq_true rfl)) (by omega) (fun _ e => ct_X10_go (by omega) e) (fun h30 e30 => ?_)
      refine S_aload_n (dc_X10_readBy 18 rfl) rfl ?_
      refine Sx.ask (fun _ i34 => ?_)
      refine S_rwI (d := k_d K - 1) (e_callV (b := a0) (As := []) (rest := []) ok_X10_readSigned rfl (Nat.le_of_ble_eq_true rfl) (dc_X10_readBy 19 rfl) ho q1984 q1986 (show e_cl[8]? = some (RX10, TX10, 51) from rfl) (e_sel.of qs81) (e_is_of i34) rfl (Nat.le_of_ble_eq_true rfl)) (by omega) (fun _ _ e => ct_X10_readSigned (by omega) e) (fun x34 h34 e34 => ?_)
      refine S_if_ne 42 (dc_X10_readBy 20 rfl) rfl (fun c37 => ?_) (fun c37 => ?_)
      · refine S_aload_n (dc_X10_readBy 23 rfl) rfl ?_
        refine S_getA (dc_X10_readBy 24 rfl) ho fl_X10_19_8_17 (fun _ _ => rfl) (fun x43 e43 => ?_)
        refine S_iconst_ 2 (dc_X10_readBy 25 rfl) rfl ?_
        refine S_iconst_ 2 (dc_X10_readBy 26 rfl) rfl ?_
        refine S_aload_n (dc_X10_readBy 27 rfl) rfl ?_
        refine S_getI (dc_X10_readBy 28 rfl) ho fl_X10_377_8_34 (fun _ _ => rfl) (fun x49 e49 => ?_)
        refine S_imul (dc_X10_readBy 29 rfl) ?_
        refine S_iadd (dc_X10_readBy 30 rfl) ?_
        refine S_aload_n (dc_X10_readBy 31 rfl) rfl ?_
        refine S_getI (dc_X10_readBy 32 rfl) ho fl_X10_172_8_14 (fun _ _ => rfl) (fun x55 e55 => ?_)
        refine S_iast (dc_X10_readBy 33 rfl) (fun h58 e58 => ?_)
        refine S_aload_n (dc_X10_readBy 34 rfl) rfl ?_
        refine Sx.ask (fun _ i60 => ?_)
        refine S_rwI (d := k_d K - 1) (e_callV (b := a0) (As := []) (rest := []) ok_X10_readSigned rfl (Nat.le_of_ble_eq_true rfl) (dc_X10_readBy 35 rfl) ho q1984 q1986 (show e_cl[8]? = some (RX10, TX10, 51) from rfl) (e_sel.of qs81) (e_is_of i60) rfl (Nat.le_of_ble_eq_true rfl)) (by omega) (fun _ _ e => ct_X10_readSigned (by omega) e) (fun x60 h60 e60 => ?_)
        refine S_if_ne 68 (dc_X10_readBy 36 rfl) rfl (fun c63 => ?_) (fun c63 => ?_)
        · refine S_aload_n (dc_X10_readBy 39 rfl) rfl ?_
          refine S_getA (dc_X10_readBy 40 rfl) ho fl_X10_19_8_17 (fun _ _ => rfl) (fun x69 e69 => ?_)
          refine S_iconst_ 3 (dc_X10_readBy 41 rfl) rfl ?_
          refine S_iconst_ 2 (dc_X10_readBy 42 rfl) rfl ?_
          refine S_aload_n (dc_X10_readBy 43 rfl) rfl ?_
          refine S_getI (dc_X10_readBy 44 rfl) ho fl_X10_377_8_34 (fun _ _ => rfl) (fun x75 e75 => ?_)
          refine S_imul (dc_X10_readBy 45 rfl) ?_
          refine S_iadd (dc_X10_readBy 46 rfl) ?_
          refine S_aload_n (dc_X10_readBy 47 rfl) rfl ?_
          refine S_getI (dc_X10_readBy 48 rfl) ho fl_X10_172_8_14 (fun _ _ => rfl) (fun x81 e81 => ?_)
          refine S_iast (dc_X10_readBy 49 rfl) (fun h84 e84 => ?_)
          refine S_aload_n (dc_X10_readBy 50 rfl) rfl ?_
          refine Sx.ask (fun _ i86 => ?_)
          refine S_rwI (d := k_d K - 1) (e_callV (b := a0) (As := []) (rest := []) ok_X10_readEnd rfl (Nat.le_of_ble_eq_true rfl) (dc_X10_readBy 51 rfl) ho q1702 q1704 (show e_cl[8]? = some (RX10, TX10, 51) from rfl) (e_sel.of qs45) (e_is_of i86) rfl (Nat.le_of_ble_eq_true rfl)) (by omega) (fun _ _ e => ct_X10_readEnd (by omega) e) (fun x86 h86 e86 => ?_)
          refine S_if_ne 94 (dc_X10_readBy 52 rfl) rfl (fun c89 => ?_) (fun c89 => ?_)
          · refine S_aload_n (dc_X10_readBy 55 rfl) rfl ?_
            refine S_dup (dc_X10_readBy 56 rfl) rfl ?_
            refine S_getI (dc_X10_readBy 57 rfl) ho fl_X10_377_8_34 (fun _ _ => rfl) (fun x96 e96 => ?_)
            refine S_iconst_ 1 (dc_X10_readBy 58 rfl) rfl ?_
            refine S_iadd (dc_X10_readBy 59 rfl) ?_
            refine S_putI (dc_X10_readBy 60 rfl) ho fl_X10_377_8_34 (fun _ _ => rfl) (Or.inl rfl) rfl rfl (fun h101 e101 => ?_)
            refine S_iconst_ 1 (dc_X10_readBy 61 rfl) rfl ?_
            exact S_iret (dc_X10_readBy 62 rfl) hT rfl (e_rqI hr)
          · refine S_iconst_ 0 (dc_X10_readBy 53 rfl) rfl ?_
            exact S_iret (dc_X10_readBy 54 rfl) hT rfl (e_rqI hr)
        · refine S_iconst_ 0 (dc_X10_readBy 37 rfl) rfl ?_
          exact S_iret (dc_X10_readBy 38 rfl) hT rfl (e_rqI hr)
      · refine S_iconst_ 0 (dc_X10_readBy 21 rfl) rfl ?_
        exact S_iret (dc_X10_readBy 22 rfl) hT rfl (e_rqI hr)
    · refine S_aload_n (dc_X10_readBy 12 rfl) rfl ?_
      refine S_iconst_ 4 (dc_X10_readBy 13 rfl) rfl ?_
      refine S_rwI (d := k_d K - 1) (e_callV (b := a0) (As := [.int 4]) (rest := []) ok_X10_bad rfl (Nat.le_of_ble_eq_true rfl) (dc_X10_readBy 14 rfl) ho q1687 q1689 (show e_cl[8]? = some (RX10, TX10, 51) from rfl) (e_sel.of qs42) (e_is_of i2) rfl (Nat.le_of_ble_eq_true rfl)) (by omega) (fun _ _ e => ct_X10_bad (by omega) e) (fun x25 h25 e25 => ?_)
      refine Sx.cond (fun c28 => ?_)
      exact S_iret (dc_X10_readBy 15 rfl) hT (e_narZ c28).1 (e_rqI hr)
  · refine S_aload_n (dc_X10_readBy 4 rfl) rfl ?_
    refine S_iconst_ 1 (dc_X10_readBy 5 rfl) rfl ?_
    refine S_rwI (d := k_d K - 1) (e_callV (b := a0) (As := [.int 1]) (rest := []) ok_X10_bad rfl (Nat.le_of_ble_eq_true rfl) (dc_X10_readBy 6 rfl) ho q1687 q1689 (show e_cl[8]? = some (RX10, TX10, 51) from rfl) (e_sel.of qs42) (e_is_of i2) rfl (Nat.le_of_ble_eq_true rfl)) (by omega) (fun _ _ e => ct_X10_bad (by omega) e) (fun x10 h10 e10 => ?_)
    refine Sx.cond (fun c13 => ?_)
    exact S_iret (dc_X10_readBy 7 rfl) hT (e_narZ c13).1 (e_rqI hr)
abbrev cX10_calls : ByteArray := prog_18_method_98_code
def yX10_calls : MethodName := ⟨"PegBandsModel", "calls", "()I"⟩
def tb_X10_calls : List (Nat × Instr × Nat) := [(0, .aload_n 0, 1), (1, .sipush 300, 3), (4, .invokevirtual 258, 3), (7, .aload_n 0, 1), (8, .iconst 0, 1), (9, .putfield 377, 3), (12, .aload_n 0, 1), (13, .invokevirtual 383, 3), (16, .ifCond .ne 10, 3), (19, .iconst (-1), 1), (20, .aload_n 0, 1), (21, .getfield 162, 3), (24, .isub, 1), (25, .ireturn, 1), (26, .aload_n 0, 1), (27, .getfield 120, 3), (30, .ifCond .ne 11, 3), (33, .aload_n 0, 1), (34, .getfield 377, 3), (37, .iconst 3, 1), (38, .if_icmp .ge 17, 3), (41, .aload_n 0, 1), (42, .invokevirtual 386, 3), (45, .ifCond .ne (-19), 3), (48, .iconst (-1), 1), (49, .aload_n 0, 1), (50, .getfield 162, 3), (53, .isub, 1), (54, .ireturn, 1), (55, .iconst 0, 1), (56, .istore_n 1, 1), (57, .iload_n 1, 1), (58, .bipush 18, 2), (60, .if_icmp .ge 41, 3), (63, .aload_n 0, 1), (64, .getfield 13, 3), (67, .sipush 243, 3), (70, .iload_n 1, 1), (71, .iadd, 1), (72, .iload_n 1, 1), (73, .iconst 2, 1), (74, .iconst 2, 1), (75, .aload_n 0, 1), (76, .getfield 377, 3), (79, .imul, 1), (80, .iadd, 1), (81, .if_icmp .ge 12, 3), (84, .aload_n 0, 1), (85, .getfield 19, 3), (88, .iload_n 1, 1), (89, .iaload, 1), (90, .goto 4, 3), (93, .iconst 0, 1), (94, .iastore, 1), (95, .iinc 1 1, 3), (98, .goto (-41), 3), (101, .aload_n 0, 1), (102, .getfield 13, 3), (105, .sipush 242, 3), (108, .aload_n 0, 1), (109, .getfield 377, 3), (112, .iastore, 1), (113, .aload_n 0, 1), (114, .getfield 13, 3), (117, .sipush 241, 3), (120, .iconst 1, 1), (121, .iastore, 1), (122, .aload_n 0, 1), (123, .getfield 377, 3), (126, .ireturn, 1)]
theorem tk_X10_calls : ∀ q ∈ tb_X10_calls, decode cX10_calls q.1 = .ok q.2 := by decide +kernel
theorem dc_X10_calls (k : Nat) {pc n : Nat} {i : Instr} (h : tb_X10_calls[k]? = some (pc, i, n)) : decode cX10_calls pc = .ok (i, n) := tk_X10_calls (pc, i, n) (List.mem_of_getElem? h)
abbrev mX10_calls : e_M := (yX10_calls, cX10_calls, 2, some (.int), [])
theorem ok_X10_calls : e_mok mX10_calls 0 := ⟨q1975, q119, by decide +kernel, fun sig h => by cases h; rfl⟩
def lp_X10_calls_57 (F : Nat) (a0 : Nat) : Nat → Int32 → e_H → Option (e_H)
  | 0, _, _ => none
  | n + 1, x1_57, h_57 =>
    if 18 ≤ x1_57 then
      some h_57
    else
      Option.bind (e_fA h_57 a0 8 15) (fun x64 =>
      Option.bind (e_fI h_57 a0 8 34) (fun x76 =>
      Option.bind (
          if (2 + (2 * x76)) ≤ x1_57 then
            some 0
          else
            Option.bind (e_fA h_57 a0 8 17) (fun x85 =>
            Option.bind (e_aI h_57 x85 0 x1_57) (fun x89 =>
            some x89))
        : Option (Int32)) (fun s94_4 =>
      Option.bind (e_wI h_57 x64 0 (243 + x1_57) s94_4) (fun h94 =>
      Option.bind (some (x1_57 + 1)) (fun x95 =>
      lp_X10_calls_57 F a0 n x95 h94)))))
def lp_X10_calls_26 (F : Nat) (a0 : Nat) : Nat → e_H → Option (Except (Int32 × e_H) e_H)
  | 0, _ => none
  | n + 1, h_26 =>
    Option.bind (e_fI h_26 a0 8 7) (fun x27 =>
    e_bE (
        if x27 = 0 then
          Option.bind (e_fI h_26 a0 8 34) (fun x34 =>
          if 3 ≤ x34 then
            Option.bind (
                lp_X10_calls_57 F a0 F 0 h_26
              : Option (e_H)) (fun h101_3 =>
            Option.bind (e_fA h101_3 a0 8 15) (fun x102 =>
            Option.bind (e_fI h101_3 a0 8 34) (fun x109 =>
            Option.bind (e_wI h101_3 x102 0 242 x109) (fun h112 =>
            Option.bind (e_fA h112 a0 8 15) (fun x114 =>
            Option.bind (e_wI h112 x114 0 241 1) (fun h121 =>
            Option.bind (e_fI h121 a0 8 34) (fun x123 =>
            some (.error (.error (x123, h121))))))))))
          else
            some (.ok h_26))
        else
          some (.ok h_26)
      : Option (Except (Except (Int32 × e_H) e_H) e_H)) (fun h41_2 =>
    Option.bind (e_is h41_2 a0 8) (fun _ =>
    e_b2 (f_X10_readBy F h41_2 a0) (fun x42 h42 =>
    if x42 = 0 then
      some (.ok h42)
    else
      lp_X10_calls_26 F a0 n h42))))
def f_X10_calls (F : Nat) (h : e_H) (a0 : Nat) : Option (Int32 × e_H) :=
  Option.bind (e_is h a0 8) (fun _ =>
  Option.bind (f_X10_begin F h a0 300) (fun h4 =>
  Option.bind (e_gI h4 a0 8 34 0) (fun h9 =>
  Option.bind (e_is h9 a0 8) (fun _ =>
  e_b2 (f_X10_readAt F h9 a0) (fun x13 h13 =>
  if x13 = 0 then
    Option.bind (e_fI h13 a0 8 11) (fun x21 =>
    some (((-1) - x21), h13))
  else
    e_bE (
        lp_X10_calls_26 F a0 F h13
      : Option (Except (Int32 × e_H) e_H)) (fun h48_1 =>
    Option.bind (e_fI h48_1 a0 8 11) (fun x50 =>
    some (((-1) - x50), h48_1))))))))
set_option maxHeartbeats 4000000 in
set_option maxRecDepth 100000 in
theorem ct_X10_calls {l : Launch} {D : e_D} {B : Heap} {F : Nat} {d : Nat} {h : e_H} {a0 : Nat} {v : Int32} {h1 : e_H} (hd : 6 ≤ d) (e : f_X10_calls F h a0 = some (v, h1)) : e_Run l D B d mX10_calls [.ref a0] h (.ok (some (.int v)), h1) := by
  refine e_start [some (.ref a0), none] (by decide) rfl rfl rfl (Nat.le_of_ble_eq_true rfl) (fun K hl0 hD0 hB0 hM hd0 hr => ?_)
  subst hl0 hD0 hB0 hd0
  have ho : (k_M K).1.cls = "PegBandsModel" := by rw [hM]; rfl
  have hT : (k_M K).2.2.2.1 = some (.int) := by rw [hM]
  refine (show Sx K cX10_calls 0 [some (.ref a0), none] [] h (f_X10_calls F h a0) (fun w => w = (v, h1)) from ?_) _ e rfl
  clear e
  unfold f_X10_calls
  refine S_aload_n (dc_X10_calls 0 rfl) rfl ?_
  refine S_sipush_ 300 (dc_X10_calls 1 rfl) rfl ?_
  refine Sx.ask (fun _ i4 => ?_)
  refine S_rwV (d := k_d K - 1) (e_callV (b := a0) (As := [.int 300]) (rest := []) ok_X10_begin rfl (Nat.le_of_ble_eq_true rfl) (dc_X10_calls 2 rfl) ho q1646 q1648 (show e_cl[8]? = some (RX10, TX10, 51) from rfl) (e_sel.of qs36) (e_is_of i4) rfl (Nat.le_of_ble_eq_true rfl)) (by omega) (fun _ e => ct_X10_begin (by omega) e) (fun h4 e4 => ?_)
  refine S_aload_n (dc_X10_calls 3 rfl) rfl ?_
  refine S_iconst_ 0 (dc_X10_calls 4 rfl) rfl ?_
  refine S_putI (dc_X10_calls 5 rfl) ho fl_X10_377_8_34 (fun _ _ => rfl) (Or.inl rfl) rfl rfl (fun h9 e9 => ?_)
  refine S_aload_n (dc_X10_calls 6 rfl) rfl ?_
  refine Sx.ask (fun _ i13 => ?_)
  refine S_rwI (d := k_d K - 1) (e_callV (b := a0) (As := []) (rest := []) ok_X10_readAt rfl (Nat.le_of_ble_eq_true rfl) (dc_X10_calls 7 rfl) ho q1976 q1978 (show e_cl[8]? = some (RX10, TX10, 51) from rfl) (e_sel.of qs79) (e_is_of i13) rfl (Nat.le_of_ble_eq_true rfl)) (by omega) (fun _ _ e => ct_X10_readAt (by omega) e) (fun x13 h13 e13 => ?_)
  refine S_if_ne 26 (dc_X10_calls 8 rfl) rfl (fun c16 => ?_) (fun c16 => ?_)
  · refine Sx.regKE1 (pc2 := 48) (L2 := fun (h48_1 : e_H) => [some (.ref a0), none]) (st2 := fun (h48_1 : e_H) => []) (h2 := fun (h48_1 : e_H) => h48_1) ?_ (fun Q1 hK1 hE1 => ?_)
    · intro h48_1
      show Sx K cX10_calls 48 [some (.ref a0), none] [] h48_1 _ _
      refine S_iconst_ (-1) (dc_X10_calls 24 rfl) rfl ?_
      refine S_aload_n (dc_X10_calls 25 rfl) rfl ?_
      refine S_getI (dc_X10_calls 26 rfl) ho fl_X10_162_8_11 (fun _ _ => rfl) (fun x50 e50 => ?_)
      refine S_isub (dc_X10_calls 27 rfl) ?_
      exact S_iret (dc_X10_calls 28 rfl) hT rfl (e_rqI hr)
    · have hK1 : ∀ (h48_1 : e_H), Sx K cX10_calls 48 [some (.ref a0), none] [] h48_1 (some (.ok h48_1)) Q1 := hK1
      have ih1 : ∀ (n : Nat) (h_26 : e_H), Sx K cX10_calls 26 [some (.ref a0), none] [] h_26 (lp_X10_calls_26 F a0 n h_26) Q1 := by
        intro n
        induction n with
        | zero => intro h_26; exact Sx.none
        | succ n ih1 =>
          intro h_26
          rw [lp_X10_calls_26.eq_2]
          refine S_aload_n (dc_X10_calls 14 rfl) rfl ?_
          refine S_getI (dc_X10_calls 15 rfl) ho fl_X10_120_8_7 (fun _ _ => rfl) (fun x27 e27 => ?_)
          refine Sx.regKE1 (pc2 := 41) (L2 := fun (h41_2 : e_H) => [some (.ref a0), none]) (st2 := fun (h41_2 : e_H) => []) (h2 := fun (h41_2 : e_H) => h41_2) ?_ (fun Q2 hK2 hE2 => ?_)
          · intro h41_2
            show Sx K cX10_calls 41 [some (.ref a0), none] [] h41_2 _ _
            refine S_aload_n (dc_X10_calls 21 rfl) rfl ?_
            refine Sx.ask (fun _ i42 => ?_)
            refine S_rwI (d := k_d K - 1) (e_callV (b := a0) (As := []) (rest := []) ok_X10_readBy rfl (Nat.le_of_ble_eq_true rfl) (dc_X10_calls 22 rfl) ho q1980 q1982 (show e_cl[8]? = some (RX10, TX10, 51) from rfl) (e_sel.of qs80) (e_is_of i42) rfl (Nat.le_of_ble_eq_true rfl)) (by omega) (fun _ _ e => ct_X10_readBy (by omega) e) (fun x42 h42 e42 => ?_)
            refine S_if_ne 26 (dc_X10_calls 23 rfl) rfl (fun c45 => ?_) (fun c45 => ?_)
            · exact ih1 h42
            · exact hK1 h42
          · have hK2 : ∀ (h41_2 : e_H), Sx K cX10_calls 41 [some (.ref a0), none] [] h41_2 (some (.ok h41_2)) Q2 := hK2
            refine S_if_ne 41 (dc_X10_calls 16 rfl) rfl (fun c30 => ?_) (fun c30 => ?_)
            · exact hK2 h_26
            · refine S_aload_n (dc_X10_calls 17 rfl) rfl ?_
              refine S_getI (dc_X10_calls 18 rfl) ho fl_X10_377_8_34 (fun _ _ => rfl) (fun x34 e34 => ?_)
              refine S_iconst_ 3 (dc_X10_calls 19 rfl) rfl ?_
              refine S_icmp_ge 55 (dc_X10_calls 20 rfl) rfl (fun c38 => ?_) (fun c38 => ?_)
              · refine S_iconst_ 0 (dc_X10_calls 29 rfl) rfl ?_
                refine S_istore_n (L' := [some (.ref a0), some (.int 0)]) (dc_X10_calls 30 rfl) rfl ?_
                refine Sx.regK1 (pc2 := 101) (L2 := fun (h101_3 : e_H) => [some (.ref a0), none]) (st2 := fun (h101_3 : e_H) => []) (h2 := fun (h101_3 : e_H) => h101_3) ?_ (fun Q3 hK3 => ?_)
                · intro h101_3
                  show Sx K cX10_calls 101 [some (.ref a0), none] [] h101_3 _ _
                  refine S_aload_n (dc_X10_calls 56 rfl) rfl ?_
                  refine S_getA (dc_X10_calls 57 rfl) ho fl_X10_13_8_15 (fun _ _ => rfl) (fun x102 e102 => ?_)
                  refine S_sipush_ 242 (dc_X10_calls 58 rfl) rfl ?_
                  refine S_aload_n (dc_X10_calls 59 rfl) rfl ?_
                  refine S_getI (dc_X10_calls 60 rfl) ho fl_X10_377_8_34 (fun _ _ => rfl) (fun x109 e109 => ?_)
                  refine S_iast (dc_X10_calls 61 rfl) (fun h112 e112 => ?_)
                  refine S_aload_n (dc_X10_calls 62 rfl) rfl ?_
                  refine S_getA (dc_X10_calls 63 rfl) ho fl_X10_13_8_15 (fun _ _ => rfl) (fun x114 e114 => ?_)
                  refine S_sipush_ 241 (dc_X10_calls 64 rfl) rfl ?_
                  refine S_iconst_ 1 (dc_X10_calls 65 rfl) rfl ?_
                  refine S_iast (dc_X10_calls 66 rfl) (fun h121 e121 => ?_)
                  refine S_aload_n (dc_X10_calls 67 rfl) rfl ?_
                  refine S_getI (dc_X10_calls 68 rfl) ho fl_X10_377_8_34 (fun _ _ => rfl) (fun x123 e123 => ?_)
                  refine Sx.err hE2 ?_
                  refine Sx.err hE1 ?_
                  exact S_iret (dc_X10_calls 69 rfl) hT rfl (e_rqI hr)
                · have hK3 : ∀ (h101_3 : e_H), Sx K cX10_calls 101 [some (.ref a0), none] [] h101_3 (some h101_3) Q3 := hK3
                  have ih3 : ∀ (n : Nat) (x1_57 : Int32) (h_57 : e_H), Sx K cX10_calls 57 [some (.ref a0), some (.int x1_57)] [] h_57 (lp_X10_calls_57 F a0 n x1_57 h_57) Q3 := by
                    intro n
                    induction n with
                    | zero => intro x1_57 h_57; exact Sx.none
                    | succ n ih3 =>
                      intro x1_57 h_57
                      rw [lp_X10_calls_57.eq_2]
                      refine S_iload_n (dc_X10_calls 31 rfl) rfl ?_
                      refine S_bipush_ 18 (dc_X10_calls 32 rfl) rfl ?_
                      refine S_icmp_ge 101 (dc_X10_calls 33 rfl) rfl (fun c60 => ?_) (fun c60 => ?_)
                      · refine Sx.cut [true, false] ?_
                        exact hK3 h_57
                      · refine S_aload_n (dc_X10_calls 34 rfl) rfl ?_
                        refine S_getA (dc_X10_calls 35 rfl) ho fl_X10_13_8_15 (fun _ _ => rfl) (fun x64 e64 => ?_)
                        refine S_sipush_ 243 (dc_X10_calls 36 rfl) rfl ?_
                        refine S_iload_n (dc_X10_calls 37 rfl) rfl ?_
                        refine S_iadd (dc_X10_calls 38 rfl) ?_
                        refine S_iload_n (dc_X10_calls 39 rfl) rfl ?_
                        refine S_iconst_ 2 (dc_X10_calls 40 rfl) rfl ?_
                        refine S_iconst_ 2 (dc_X10_calls 41 rfl) rfl ?_
                        refine S_aload_n (dc_X10_calls 42 rfl) rfl ?_
                        refine S_getI (dc_X10_calls 43 rfl) ho fl_X10_377_8_34 (fun _ _ => rfl) (fun x76 e76 => ?_)
                        refine S_imul (dc_X10_calls 44 rfl) ?_
                        refine S_iadd (dc_X10_calls 45 rfl) ?_
                        refine Sx.regK1 (pc2 := 94) (L2 := fun (s94_4 : Int32) => [some (.ref a0), some (.int x1_57)]) (st2 := fun (s94_4 : Int32) => [.int s94_4, .int (243 + x1_57), .ref x64]) (h2 := fun (s94_4 : Int32) => h_57) ?_ (fun Q4 hK4 => ?_)
                        · intro s94_4
                          show Sx K cX10_calls 94 [some (.ref a0), some (.int x1_57)] [.int s94_4, .int (243 + x1_57), .ref x64] h_57 _ _
                          refine S_iast (dc_X10_calls 53 rfl) (fun h94 e94 => ?_)
                          refine S_iincN 1 (L' := fun x95 => [some (.ref a0), some (.int x95)]) (dc_X10_calls 54 rfl) rfl rfl (fun _ => rfl) (fun x95 n95 => ?_)
                          refine S_goto 57 (dc_X10_calls 55 rfl) rfl ?_
                          exact ih3 x95 h94
                        · have hK4 : ∀ (s94_4 : Int32), Sx K cX10_calls 94 [some (.ref a0), some (.int x1_57)] [.int s94_4, .int (243 + x1_57), .ref x64] h_57 (some s94_4) Q4 := hK4
                          refine S_icmp_ge 93 (dc_X10_calls 46 rfl) rfl (fun c81 => ?_) (fun c81 => ?_)
                          · refine S_iconst_ 0 (dc_X10_calls 52 rfl) rfl ?_
                            exact hK4 0
                          · refine S_aload_n (dc_X10_calls 47 rfl) rfl ?_
                            refine S_getA (dc_X10_calls 48 rfl) ho fl_X10_19_8_17 (fun _ _ => rfl) (fun x85 e85 => ?_)
                            refine S_iload_n (dc_X10_calls 49 rfl) rfl ?_
                            refine S_iald (dc_X10_calls 50 rfl) (fun x89 e89 => ?_)
                            refine S_goto 94 (dc_X10_calls 51 rfl) rfl ?_
                            exact hK4 x89
                  exact ih3 F 0 h_26
              · exact hK2 h_26
      exact ih1 F h13
  · refine S_iconst_ (-1) (dc_X10_calls 9 rfl) rfl ?_
    refine S_aload_n (dc_X10_calls 10 rfl) rfl ?_
    refine S_getI (dc_X10_calls 11 rfl) ho fl_X10_162_8_11 (fun _ _ => rfl) (fun x21 e21 => ?_)
    refine S_isub (dc_X10_calls 12 rfl) ?_
    exact S_iret (dc_X10_calls 13 rfl) hT rfl (e_rqI hr)
