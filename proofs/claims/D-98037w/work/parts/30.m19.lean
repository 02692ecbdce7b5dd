/-! printed by gen/gen.py -/
set_option maxRecDepth 100000
abbrev cX1_restore : ByteArray := prog_1_method_84_code
def yX1_restore : MethodName := ⟨"PegBands", "restore", "(I)Z"⟩
def tb_X1_restore : List (Nat × Instr × Nat) := [(0, .iload_n 1, 1), (1, .iconst 0, 1), (2, .iconst 1, 1), (3, .invokestatic 187, 3), (6, .ifCond .eq 12, 3), (9, .aload_n 0, 1), (10, .getfield 149, 3), (13, .iload_n 1, 1), (14, .aaload, 1), (15, .ifnonnull 5, 3), (18, .iconst 0, 1), (19, .ireturn, 1), (20, .aload_n 0, 1), (21, .getfield 149, 3), (24, .iload_n 1, 1), (25, .aaload, 1), (26, .astore_n 2, 1), (27, .aload_n 0, 1), (28, .aload_n 2, 1), (29, .getfield 473, 3), (32, .putfield 63, 3), (35, .aload_n 0, 1), (36, .getfield 63, 3), (39, .aload_n 2, 1), (40, .getfield 474, 3), (43, .putfield 234, 3), (46, .aload_n 2, 1), (47, .getfield 475, 3), (50, .iconst 0, 1), (51, .aload_n 0, 1), (52, .getfield 63, 3), (55, .getfield 248, 3), (58, .iconst 0, 1), (59, .bipush 8, 2), (61, .invokestatic 297, 3), (64, .aload_n 0, 1), (65, .getfield 69, 3), (68, .aload_n 2, 1), (69, .getfield 476, 3), (72, .invokevirtual 349, 3), (75, .aload_n 2, 1), (76, .getfield 477, 3), (79, .iconst 0, 1), (80, .aload_n 0, 1), (81, .getfield 134, 3), (84, .iconst 0, 1), (85, .bipush 9, 2), (87, .invokestatic 297, 3), (90, .aload_n 2, 1), (91, .getfield 478, 3), (94, .iconst 0, 1), (95, .aload_n 0, 1), (96, .getfield 137, 3), (99, .iconst 0, 1), (100, .bipush 9, 2), (102, .invokestatic 297, 3), (105, .aload_n 0, 1), (106, .aload_n 2, 1), (107, .getfield 479, 3), (110, .putfield 212, 3), (113, .aload_n 0, 1), (114, .aload_n 2, 1), (115, .getfield 480, 3), (118, .putfield 218, 3), (121, .aload_n 0, 1), (122, .iconst 0, 1), (123, .putfield 215, 3), (126, .iconst 1, 1), (127, .ireturn, 1)]
theorem tk_X1_restore : ∀ q ∈ tb_X1_restore, decode cX1_restore q.1 = .ok q.2 := by decide +kernel
theorem dc_X1_restore (k : Nat) {pc n : Nat} {i : Instr} (h : tb_X1_restore[k]? = some (pc, i, n)) : decode cX1_restore pc = .ok (i, n) := tk_X1_restore (pc, i, n) (List.mem_of_getElem? h)
abbrev mX1_restore : e_M := (yX1_restore, cX1_restore, 3, some (.boolean), [])
theorem ok_X1_restore : e_mok mX1_restore 1 := ⟨q1423, q108, by decide +kernel, fun sig h => by cases h; rfl⟩
def f_X1_restore (h : e_H) (a0 : Nat) (a1 : Int32) : Option (Int32 × e_H) :=
  Option.bind (f_X1_isIn a1 0 1) (fun x3 =>
  if x3 = 0 then
    some (0, h)
  else
    Option.bind (e_fA h a0 0 36) (fun x10 =>
    Option.bind (e_aR h x10 7 a1) (fun x14 =>
    (match x14 with
    | none =>
      some (0, h)
    | some _ =>
      Option.bind (e_fA h a0 0 36) (fun x21 =>
      Option.bind (e_aA h x21 7 a1) (fun x25 =>
      Option.bind (e_fR h x25 14 0) (fun x29 =>
      Option.bind (e_gR h a0 0 6 x29) (fun h32 =>
      Option.bind (e_fA h32 a0 0 6) (fun x36 =>
      Option.bind (e_fI h32 x25 14 5) (fun x40 =>
      Option.bind (e_gI h32 x36 2 4 x40) (fun h43 =>
      Option.bind (e_fA h43 x25 14 1) (fun x47 =>
      Option.bind (e_fA h43 a0 0 6) (fun x52 =>
      Option.bind (e_fA h43 x52 2 0) (fun x55 =>
      Option.bind (e_cpR h43 4 x47 0 x55 0 8) (fun h61 =>
      Option.bind (e_fA h61 a0 0 7) (fun x65 =>
      Option.bind (e_fA h61 x25 14 2) (fun x69 =>
      Option.bind (e_is h61 x65 3) (fun _ =>
      Option.bind (f_X4_be h61 x65 x69) (fun h72 =>
      Option.bind (e_fA h72 x25 14 3) (fun x76 =>
      Option.bind (e_fA h72 a0 0 31) (fun x81 =>
      Option.bind (e_cpI h72 x76 0 x81 0 9) (fun h87 =>
      Option.bind (e_fA h87 x25 14 4) (fun x91 =>
      Option.bind (e_fA h87 a0 0 32) (fun x96 =>
      Option.bind (e_cpI h87 x91 0 x96 0 9) (fun h102 =>
      Option.bind (e_fI h102 x25 14 6) (fun x107 =>
      Option.bind (e_gI h102 a0 0 33 x107) (fun h110 =>
      Option.bind (e_fR h110 x25 14 7) (fun x115 =>
      Option.bind (e_gR h110 a0 0 35 x115) (fun h118 =>
      Option.bind (e_gI h118 a0 0 19 0) (fun h123 =>
      some (1, h123)))))))))))))))))))))))))))))))
set_option maxHeartbeats 4000000 in
set_option maxRecDepth 100000 in
theorem ct_X1_restore {l : Launch} {D : e_D} {B : Heap} {d : Nat} {h : e_H} {a0 : Nat} {a1 : Int32} {v : Int32} {h1 : e_H} (hd : 2 ≤ d) (e : f_X1_restore h a0 a1 = some (v, h1)) : e_Run l D B d mX1_restore [.ref a0, .int a1] h (.ok (some (.int v)), h1) := by
  refine e_start [some (.ref a0), some (.int a1), none] (by decide) rfl rfl rfl (Nat.le_of_ble_eq_true rfl) (fun K hl0 hD0 hB0 hM hd0 hr => ?_)
  subst hl0 hD0 hB0 hd0
  have ho : (k_M K).1.cls = "PegBands" := by rw [hM]; rfl
  have hT : (k_M K).2.2.2.1 = some (.boolean) := by rw [hM]
  refine (show Sx K cX1_restore 0 [some (.ref a0), some (.int a1), none] [] h (f_X1_restore h a0 a1) (fun w => w = (v, h1)) from ?_) _ e rfl
  clear e
  unfold f_X1_restore
  refine S_iload_n (dc_X1_restore 0 rfl) rfl ?_
  refine S_iconst_ 0 (dc_X1_restore 1 rfl) rfl ?_
  refine S_iconst_ 1 (dc_X1_restore 2 rfl) rfl ?_
  refine S_roI (d := k_d K - 1) (e_callS (As := [.int a1, .int 0, .int 1]) (rest := []) ok_X1_isIn rfl (Nat.le_of_ble_eq_true rfl) (dc_X1_restore 3 rfl) ho q825 q616 rfl (Nat.le_of_ble_eq_true rfl)) (by omega) (fun _ e => ct_X1_isIn (by omega) e) (fun x3 e3 => ?_)
  refine S_if_eq 18 (dc_X1_restore 4 rfl) rfl (fun c6 => ?_) (fun c6 => ?_)
  · refine S_iconst_ 0 (dc_X1_restore 10 rfl) rfl ?_
    exact S_iret (dc_X1_restore 11 rfl) hT rfl (e_rqI hr)
  · refine S_aload_n (dc_X1_restore 5 rfl) rfl ?_
    refine S_getA (dc_X1_restore 6 rfl) ho fl_X1_149_0_36 (fun _ _ => rfl) (fun x10 e10 => ?_)
    refine S_iload_n (dc_X1_restore 7 rfl) rfl ?_
    refine S_aald7 (dc_X1_restore 8 rfl) (fun x14 e14 => ?_)
    refine S_ifnonnull 20 (dc_X1_restore 9 rfl) rfl (fun _ n15 => ?_) (?_)
    · refine S_aload_n (dc_X1_restore 12 rfl) rfl ?_
      refine S_getA (dc_X1_restore 13 rfl) ho fl_X1_149_0_36 (fun _ _ => rfl) (fun x21 e21 => ?_)
      refine S_iload_n (dc_X1_restore 14 rfl) rfl ?_
      refine S_aaldA7 (dc_X1_restore 15 rfl) (fun x25 e25 => ?_)
      refine S_astore_n (L' := [some (.ref a0), some (.int a1), some (.ref x25)]) (dc_X1_restore 16 rfl) rfl ?_
      refine S_aload_n (dc_X1_restore 17 rfl) rfl ?_
      refine S_aload_n (dc_X1_restore 18 rfl) rfl ?_
      refine S_getR (dc_X1_restore 19 rfl) ho fl_X1_473_14_0 (fun _ _ => rfl) (fun x29 e29 => ?_)
      refine S_putR (v := x29) (dc_X1_restore 20 rfl) ho fl_X1_63_0_6 (fun _ _ => rfl) (Or.inl rfl) rfl (fun h32 e32 => ?_)
      refine S_aload_n (dc_X1_restore 21 rfl) rfl ?_
      refine S_getA (dc_X1_restore 22 rfl) ho fl_X1_63_0_6 (fun _ _ => rfl) (fun x36 e36 => ?_)
      refine S_aload_n (dc_X1_restore 23 rfl) rfl ?_
      refine S_getI (dc_X1_restore 24 rfl) ho fl_X1_474_14_5 (fun _ _ => rfl) (fun x40 e40 => ?_)
      refine S_putI (dc_X1_restore 25 rfl) ho fl_X1_234_2_4 (fun _ _ => rfl) (Or.inl rfl) rfl rfl (fun h43 e43 => ?_)
      refine S_aload_n (dc_X1_restore 26 rfl) rfl ?_
      refine S_getA (dc_X1_restore 27 rfl) ho fl_X1_475_14_1 (fun _ _ => rfl) (fun x47 e47 => ?_)
      refine S_iconst_ 0 (dc_X1_restore 28 rfl) rfl ?_
      refine S_aload_n (dc_X1_restore 29 rfl) rfl ?_
      refine S_getA (dc_X1_restore 30 rfl) ho fl_X1_63_0_6 (fun _ _ => rfl) (fun x52 e52 => ?_)
      refine S_getA (dc_X1_restore 31 rfl) ho fl_X1_248_2_0 (fun _ _ => rfl) (fun x55 e55 => ?_)
      refine S_iconst_ 0 (dc_X1_restore 32 rfl) rfl ?_
      refine S_bipush_ 8 (dc_X1_restore 33 rfl) rfl ?_
      refine S_copyR (t := 4) (dc_X1_restore 34 rfl) ho q917 (by omega) (Nat.le_of_ble_eq_true rfl) rfl (fun _ _ _ => rfl) (fun h61 e61 => ?_)
      refine S_aload_n (dc_X1_restore 35 rfl) rfl ?_
      refine S_getA (dc_X1_restore 36 rfl) ho fl_X1_69_0_7 (fun _ _ => rfl) (fun x65 e65 => ?_)
      refine S_aload_n (dc_X1_restore 37 rfl) rfl ?_
      refine S_getA (dc_X1_restore 38 rfl) ho fl_X1_476_14_2 (fun _ _ => rfl) (fun x69 e69 => ?_)
      refine Sx.ask (fun _ i72 => ?_)
      refine S_rwV (d := k_d K - 1) (e_callV (b := x65) (As := [.ref x69]) (rest := []) ok_X4_be rfl (Nat.le_of_ble_eq_true rfl) (dc_X1_restore 39 rfl) ho q1035 q1036 (show e_cl[3]? = some (RX4, TX4, 5) from rfl) (e_sel.of q1037) (e_is_of i72) rfl (Nat.le_of_ble_eq_true rfl)) (by omega) (fun _ e => ct_X4_be (by omega) e) (fun h72 e72 => ?_)
      refine S_aload_n (dc_X1_restore 40 rfl) rfl ?_
      refine S_getA (dc_X1_restore 41 rfl) ho fl_X1_477_14_3 (fun _ _ => rfl) (fun x76 e76 => ?_)
      refine S_iconst_ 0 (dc_X1_restore 42 rfl) rfl ?_
      refine S_aload_n (dc_X1_restore 43 rfl) rfl ?_
      refine S_getA (dc_X1_restore 44 rfl) ho fl_X1_134_0_31 (fun _ _ => rfl) (fun x81 e81 => ?_)
      refine S_iconst_ 0 (dc_X1_restore 45 rfl) rfl ?_
      refine S_bipush_ 9 (dc_X1_restore 46 rfl) rfl ?_
      refine S_copyI (dc_X1_restore 47 rfl) ho q917 (by omega) (Nat.le_of_ble_eq_true rfl) (fun h87 e87 => ?_)
      refine S_aload_n (dc_X1_restore 48 rfl) rfl ?_
      refine S_getA (dc_X1_restore 49 rfl) ho fl_X1_478_14_4 (fun _ _ => rfl) (fun x91 e91 => ?_)
      refine S_iconst_ 0 (dc_X1_restore 50 rfl) rfl ?_
      refine S_aload_n (dc_X1_restore 51 rfl) rfl ?_
      refine S_getA (dc_X1_restore 52 rfl) ho fl_X1_137_0_32 (fun _ _ => rfl) (fun x96 e96 => ?_)
      refine S_iconst_ 0 (dc_X1_restore 53 rfl) rfl ?_
      refine S_bipush_ 9 (dc_X1_restore 54 rfl) rfl ?_
      refine S_copyI (dc_X1_restore 55 rfl) ho q917 (by omega) (Nat.le_of_ble_eq_true rfl) (fun h102 e102 => ?_)
      refine S_aload_n (dc_X1_restore 56 rfl) rfl ?_
      refine S_aload_n (dc_X1_restore 57 rfl) rfl ?_
      refine S_getI (dc_X1_restore 58 rfl) ho fl_X1_479_14_6 (fun _ _ => rfl) (fun x107 e107 => ?_)
      refine S_putI (dc_X1_restore 59 rfl) ho fl_X1_212_0_33 (fun _ _ => rfl) (Or.inl rfl) rfl rfl (fun h110 e110 => ?_)
      refine S_aload_n (dc_X1_restore 60 rfl) rfl ?_
      refine S_aload_n (dc_X1_restore 61 rfl) rfl ?_
      refine S_getR (dc_X1_restore 62 rfl) ho fl_X1_480_14_7 (fun _ _ => rfl) (fun x115 e115 => ?_)
      refine S_putR (v := x115) (dc_X1_restore 63 rfl) ho fl_X1_218_0_35 (fun _ _ => rfl) (Or.inl rfl) rfl (fun h118 e118 => ?_)
      refine S_aload_n (dc_X1_restore 64 rfl) rfl ?_
      refine S_iconst_ 0 (dc_X1_restore 65 rfl) rfl ?_
      refine S_putI (dc_X1_restore 66 rfl) ho fl_X1_215_0_19 (fun _ _ => rfl) (Or.inl rfl) rfl rfl (fun h123 e123 => ?_)
      refine S_iconst_ 1 (dc_X1_restore 67 rfl) rfl ?_
      exact S_iret (dc_X1_restore 68 rfl) hT rfl (e_rqI hr)
    · refine S_iconst_ 0 (dc_X1_restore 10 rfl) rfl ?_
      exact S_iret (dc_X1_restore 11 rfl) hT rfl (e_rqI hr)
abbrev cX1_count : ByteArray := prog_1_method_85_code
def yX1_count : MethodName := ⟨"PegBands", "count", "(I)I"⟩
def tb_X1_count : List (Nat × Instr × Nat) := [(0, .iload_n 1, 1), (1, .tableswitch 113 0 7 #[47, 55, 63, 71, 79, 95, 103, 108], 47), (48, .aload_n 0, 1), (49, .getfield 63, 3), (52, .getfield 401, 3), (55, .ireturn, 1), (56, .aload_n 0, 1), (57, .getfield 63, 3), (60, .getfield 392, 3), (63, .ireturn, 1), (64, .aload_n 0, 1), (65, .getfield 63, 3), (68, .getfield 234, 3), (71, .ireturn, 1), (72, .aload_n 0, 1), (73, .getfield 63, 3), (76, .getfield 481, 3), (79, .ireturn, 1), (80, .aload_n 0, 1), (81, .getfield 63, 3), (84, .getfield 484, 3), (87, .ifCond .eq 7, 3), (90, .iconst 1, 1), (91, .goto 4, 3), (94, .iconst 0, 1), (95, .ireturn, 1), (96, .aload_n 0, 1), (97, .getfield 69, 3), (100, .getfield 209, 3), (103, .ireturn, 1), (104, .aload_n 0, 1), (105, .getfield 212, 3), (108, .ireturn, 1), (109, .aload_n 0, 1), (110, .getfield 153, 3), (113, .ireturn, 1), (114, .iconst (-1), 1), (115, .ireturn, 1)]
theorem tk_X1_count : ∀ q ∈ tb_X1_count, decode cX1_count q.1 = .ok q.2 := by decide +kernel
theorem dc_X1_count (k : Nat) {pc n : Nat} {i : Instr} (h : tb_X1_count[k]? = some (pc, i, n)) : decode cX1_count pc = .ok (i, n) := tk_X1_count (pc, i, n) (List.mem_of_getElem? h)
abbrev mX1_count : e_M := (yX1_count, cX1_count, 2, some (.int), [])
theorem ok_X1_count : e_mok mX1_count 1 := ⟨q1427, q108, by decide +kernel, fun sig h => by cases h; rfl⟩
theorem fl_X1_481_2_5 : e_FL "PegBands" 481 2 5 := ⟨_, rfl, by decide, Or.inr (Or.inr (Or.inl ⟨_, q263⟩))⟩
theorem fl_X1_484_2_6 : e_FL "PegBands" 484 2 6 := ⟨_, rfl, by decide, Or.inr (Or.inr (Or.inl ⟨_, q266⟩))⟩
def f_X1_count (h : e_H) (a0 : Nat) (a1 : Int32) : Option Int32 :=
  if a1 = 0 then
    Option.bind (e_fA h a0 0 6) (fun x49 =>
    Option.bind (e_fI h x49 2 2) (fun x52 =>
    some x52))
  else
  if a1 = 1 then
    Option.bind (e_fA h a0 0 6) (fun x57 =>
    Option.bind (e_fI h x57 2 3) (fun x60 =>
    some x60))
  else
  if a1 = 2 then
    Option.bind (e_fA h a0 0 6) (fun x65 =>
    Option.bind (e_fI h x65 2 4) (fun x68 =>
    some x68))
  else
  if a1 = 3 then
    Option.bind (e_fA h a0 0 6) (fun x73 =>
    Option.bind (e_fI h x73 2 5) (fun x76 =>
    some x76))
  else
  if a1 = 4 then
    Option.bind (e_fA h a0 0 6) (fun x81 =>
    Option.bind (e_fI h x81 2 6) (fun x84 =>
    if x84 = 0 then
      some 0
    else
      some 1))
  else
  if a1 = 5 then
    Option.bind (e_fA h a0 0 7) (fun x97 =>
    Option.bind (e_fI h x97 3 4) (fun x100 =>
    some x100))
  else
  if a1 = 6 then
    Option.bind (e_fI h a0 0 33) (fun x105 =>
    some x105)
  else
  if a1 = 7 then
    Option.bind (e_fI h a0 0 1) (fun x110 =>
    some x110)
  else
    some (-1)
set_option maxHeartbeats 4000000 in
set_option maxRecDepth 100000 in
theorem ct_X1_count {l : Launch} {D : e_D} {B : Heap} {d : Nat} {h : e_H} {a0 : Nat} {a1 : Int32} {v : Int32} (hd : 1 ≤ d) (e : f_X1_count h a0 a1 = some v) : e_Run l D B d mX1_count [.ref a0, .int a1] h (.ok (some (.int v)), h) := by
  refine e_start [some (.ref a0), some (.int a1)] (by decide) rfl rfl rfl (Nat.le_of_ble_eq_true rfl) (fun K hl0 hD0 hB0 hM hd0 hr => ?_)
  subst hl0 hD0 hB0 hd0
  have ho : (k_M K).1.cls = "PegBands" := by rw [hM]; rfl
  have hT : (k_M K).2.2.2.1 = some (.int) := by rw [hM]
  refine (show Sx K cX1_count 0 [some (.ref a0), some (.int a1)] [] h (f_X1_count h a0 a1) (fun w => w = v) from ?_) _ e rfl
  clear e
  unfold f_X1_count
  refine S_iload_n (dc_X1_count 0 rfl) rfl ?_
  refine Sx.case (fun c1_0 => ?_) (fun c1_0 => ?_)
  · refine S_tsIn 48 c1_0 (dc_X1_count 1 rfl) (by decide) (by decide) rfl rfl ?_
    refine S_aload_n (dc_X1_count 2 rfl) rfl ?_
    refine S_getA (dc_X1_count 3 rfl) ho fl_X1_63_0_6 (fun _ _ => rfl) (fun x49 e49 => ?_)
    refine S_getI (dc_X1_count 4 rfl) ho fl_X1_401_2_2 (fun _ _ => rfl) (fun x52 e52 => ?_)
    exact S_iret (dc_X1_count 5 rfl) hT rfl (fun q => by cases q; exact hr)
  refine Sx.case (fun c1_1 => ?_) (fun c1_1 => ?_)
  · refine S_tsIn 56 c1_1 (dc_X1_count 1 rfl) (by decide) (by decide) rfl rfl ?_
    refine S_aload_n (dc_X1_count 6 rfl) rfl ?_
    refine S_getA (dc_X1_count 7 rfl) ho fl_X1_63_0_6 (fun _ _ => rfl) (fun x57 e57 => ?_)
    refine S_getI (dc_X1_count 8 rfl) ho fl_X1_392_2_3 (fun _ _ => rfl) (fun x60 e60 => ?_)
    exact S_iret (dc_X1_count 9 rfl) hT rfl (fun q => by cases q; exact hr)
  refine Sx.case (fun c1_2 => ?_) (fun c1_2 => ?_)
  · refine S_tsIn 64 c1_2 (dc_X1_count 1 rfl) (by decide) (by decide) rfl rfl ?_
    refine S_aload_n (dc_X1_count 10 rfl) rfl ?_
    refine S_getA (dc_X1_count 11 rfl) ho fl_X1_63_0_6 (fun _ _ => rfl) (fun x65 e65 => ?_)
    refine S_getI (dc_X1_count 12 rfl) ho fl_X1_234_2_4 (fun _ _ => rfl) (fun x68 e68 => ?_)
    exact S_iret (dc_X1_count 13 rfl) hT rfl (fun q => by cases q; exact hr)
  refine Sx.case (fun c1_3 => ?_) (fun c1_3 => ?_)
  · refine S_tsIn 72 c1_3 (dc_X1_count 1 rfl) (by decide) (by decide) rfl rfl ?_
    refine S_aload_n (dc_X1_count 14 rfl) rfl ?_
    refine S_getA (dc_X1_count 15 rfl) ho fl_X1_63_0_6 (fun _ _ => rfl) (fun x73 e73 => ?_)
    refine S_getI (dc_X1_count 16 rfl) ho fl_X1_481_2_5 (fun _ _ => rfl) (fun x76 e76 => ?_)
    exact S_iret (dc_X1_count 17 rfl) hT rfl (fun q => by cases q; exact hr)
  refine Sx.case (fun c1_4 => ?_) (fun c1_4 => ?_)
  · refine S_tsIn 80 c1_4 (dc_X1_count 1 rfl) (by decide) (by decide) rfl rfl ?_
    refine S_aload_n (dc_X1_count 18 rfl) rfl ?_
    refine S_getA (dc_X1_count 19 rfl) ho fl_X1_63_0_6 (fun _ _ => rfl) (fun x81 e81 => ?_)
    refine S_getI (dc_X1_count 20 rfl) ho fl_X1_484_2_6 (fun _ _ => rfl) (fun x84 e84 => ?_)
    refine S_if_eq 94 (dc_X1_count 21 rfl) rfl (fun c87 => ?_) (fun c87 => ?_)
    · refine S_iconst_ 0 (dc_X1_count 24 rfl) rfl ?_
      exact S_iret (dc_X1_count 25 rfl) hT rfl (fun q => by cases q; exact hr)
    · refine S_iconst_ 1 (dc_X1_count 22 rfl) rfl ?_
      refine S_goto 95 (dc_X1_count 23 rfl) rfl ?_
      exact S_iret (dc_X1_count 25 rfl) hT rfl (fun q => by cases q; exact hr)
  refine Sx.case (fun c1_5 => ?_) (fun c1_5 => ?_)
  · refine S_tsIn 96 c1_5 (dc_X1_count 1 rfl) (by decide) (by decide) rfl rfl ?_
    refine S_aload_n (dc_X1_count 26 rfl) rfl ?_
    refine S_getA (dc_X1_count 27 rfl) ho fl_X1_69_0_7 (fun _ _ => rfl) (fun x97 e97 => ?_)
    refine S_getI (dc_X1_count 28 rfl) ho fl_X1_209_3_4 (fun _ _ => rfl) (fun x100 e100 => ?_)
    exact S_iret (dc_X1_count 29 rfl) hT rfl (fun q => by cases q; exact hr)
  refine Sx.case (fun c1_6 => ?_) (fun c1_6 => ?_)
  · refine S_tsIn 104 c1_6 (dc_X1_count 1 rfl) (by decide) (by decide) rfl rfl ?_
    refine S_aload_n (dc_X1_count 30 rfl) rfl ?_
    refine S_getI (dc_X1_count 31 rfl) ho fl_X1_212_0_33 (fun _ _ => rfl) (fun x105 e105 => ?_)
    exact S_iret (dc_X1_count 32 rfl) hT rfl (fun q => by cases q; exact hr)
  refine Sx.case (fun c1_7 => ?_) (fun c1_7 => ?_)
  · refine S_tsIn 109 c1_7 (dc_X1_count 1 rfl) (by decide) (by decide) rfl rfl ?_
    refine S_aload_n (dc_X1_count 33 rfl) rfl ?_
    refine S_getI (dc_X1_count 34 rfl) ho fl_X1_153_0_1 (fun _ _ => rfl) (fun x110 e110 => ?_)
    exact S_iret (dc_X1_count 35 rfl) hT rfl (fun q => by cases q; exact hr)
  refine S_tsOut 114 (dc_X1_count 1 rfl) (by have := e_neI (k := 0) c1_0 (by decide); have := e_neI (k := 1) c1_1 (by decide); have := e_neI (k := 2) c1_2 (by decide); have := e_neI (k := 3) c1_3 (by decide); have := e_neI (k := 4) c1_4 (by decide); have := e_neI (k := 5) c1_5 (by decide); have := e_neI (k := 6) c1_6 (by decide); have := e_neI (k := 7) c1_7 (by decide); omega) rfl ?_
  refine S_iconst_ (-1) (dc_X1_count 36 rfl) rfl ?_
  exact S_iret (dc_X1_count 37 rfl) hT rfl (fun q => by cases q; exact hr)
