/-! printed by gen/gen.py -/
set_option maxRecDepth 100000
abbrev cX1_board : ByteArray := prog_1_method_13_code
def yX1_board : MethodName := ⟨"PegBands", "board", "()I"⟩
def tb_X1_board : List (Nat × Instr × Nat) := [(0, .aload_n 0, 1), (1, .invokevirtual 199, 3), (4, .aload_n 0, 1), (5, .iconst 0, 1), (6, .putfield 202, 3), (9, .new 60, 3), (12, .dup, 1), (13, .invokespecial 62, 3), (16, .astore_n 1, 1), (17, .aload_n 0, 1), (18, .getfield 81, 3), (21, .aload_n 1, 1), (22, .invokevirtual 205, 3), (25, .istore_n 2, 1), (26, .aload_n 0, 1), (27, .aload_n 1, 1), (28, .putfield 63, 3), (31, .aload_n 0, 1), (32, .getfield 69, 3), (35, .iconst 0, 1), (36, .putfield 209, 3), (39, .aload_n 0, 1), (40, .iconst 0, 1), (41, .putfield 212, 3), (44, .aload_n 0, 1), (45, .iconst 0, 1), (46, .putfield 215, 3), (49, .aload_n 0, 1), (50, .aconst_null, 1), (51, .putfield 218, 3), (54, .iload_n 2, 1), (55, .ireturn, 1), (56, .astore_n 2, 1), (57, .aload_n 0, 1), (58, .aload_n 2, 1), (59, .getfield 222, 3), (62, .putfield 202, 3), (65, .iconst (-1), 1), (66, .aload_n 2, 1), (67, .getfield 225, 3), (70, .isub, 1), (71, .ireturn, 1)]
theorem tk_X1_board : ∀ q ∈ tb_X1_board, decode cX1_board q.1 = .ok q.2 := by decide +kernel
theorem dc_X1_board (k : Nat) {pc n : Nat} {i : Instr} (h : tb_X1_board[k]? = some (pc, i, n)) : decode cX1_board pc = .ok (i, n) := tk_X1_board (pc, i, n) (List.mem_of_getElem? h)
abbrev mX1_board : e_M := (yX1_board, cX1_board, 3, some (.int), [(17, 55, 56, 13)])
theorem ok_X1_board : e_mok mX1_board 0 := ⟨q585, q108, by decide +kernel, fun sig h => by cases h; rfl⟩
theorem fl_X1_202_0_11 : e_FL "PegBands" 202 0 11 := ⟨_, rfl, by decide, Or.inl q468⟩
theorem fl_X1_222_1_6 : e_FL "PegBands" 222 1 6 := ⟨_, rfl, by decide, Or.inl q191⟩
theorem fl_X1_225_1_7 : e_FL "PegBands" 225 1 7 := ⟨_, rfl, by decide, Or.inl q193⟩
theorem fl_X1_209_3_4 : e_FL "PegBands" 209 3 4 := ⟨_, rfl, by decide, Or.inr (Or.inr (Or.inl ⟨_, q299⟩))⟩
theorem fl_X1_212_0_33 : e_FL "PegBands" 212 0 33 := ⟨_, rfl, by decide, Or.inl q491⟩
theorem fl_X1_215_0_19 : e_FL "PegBands" 215 0 19 := ⟨_, rfl, by decide, Or.inl q477⟩
theorem fl_X1_218_0_35 : e_FL "PegBands" 218 0 35 := ⟨_, rfl, by decide, Or.inl q493⟩
def f_X1_board (F : Nat) (A : Nat → Nat) (h : e_H) (a0 : Nat) : Option (Int32 × e_H) :=
  Option.bind (e_is h a0 0) (fun _ =>
  Option.bind (f_X1_taken h a0) (fun h1 =>
  Option.bind (e_gI h1 a0 0 11 0) (fun h6 =>
  e_mkb h6 (.inl 2) 7 (fun x9 h9 =>
  Option.bind (f_X3_init h9 x9) (fun h13 =>
  Option.bind (e_fA h13 a0 0 9) (fun x18 =>
  Option.bind (e_is h13 x18 4) (fun _ =>
  e_b3 (f_X6_read F A h13 x18 x9) (fun z22 h22 =>
      if z22.1 = 0 then
        Option.bind (e_fI h22 z22.2 1 6) (fun x59 =>
        Option.bind (e_gI h22 a0 0 11 x59) (fun h62 =>
        Option.bind (e_fI h62 z22.2 1 7) (fun x67 =>
        some (((-1) - x67), h62))))
      else none) (fun x22 h22 =>
  Option.bind (e_gR h22 a0 0 6 (some x9)) (fun h28 =>
  Option.bind (e_fA h28 a0 0 7) (fun x32 =>
  Option.bind (e_gI h28 x32 3 4 0) (fun h36 =>
  Option.bind (e_gI h36 a0 0 33 0) (fun h41 =>
  Option.bind (e_gI h41 a0 0 19 0) (fun h46 =>
  Option.bind (e_gR h46 a0 0 35 none) (fun h51 =>
  some (x22, h51)))))))))))))))
set_option maxHeartbeats 4000000 in
set_option maxRecDepth 100000 in
theorem ct_X1_board {l : Launch} {D : e_D} {B : Heap} {F : Nat} {A : Nat → Nat} {d : Nat} {h : e_H} {a0 : Nat} {v : Int32} {h1 : e_H} (hA : D.2.2.1 = A) (hd : 11 ≤ d) (e : f_X1_board F A h a0 = some (v, h1)) : e_Run l D B d mX1_board [.ref a0] h (.ok (some (.int v)), h1) := by
  refine e_startW [some (.ref a0), none, none] (by decide) rfl rfl rfl (Nat.le_of_ble_eq_true rfl) (fun K hl0 hD0 hB0 hM hd0 hr => ?_)
  subst hl0 hD0 hB0 hd0
  have ho : (k_M K).1.cls = "PegBands" := by rw [hM]; rfl
  have hT : (k_M K).2.2.2.1 = some (.int) := by rw [hM]
  refine (show Sx K cX1_board 0 [some (.ref a0), none, none] [] h (f_X1_board F A h a0) (fun w => w = (v, h1)) from ?_) _ e rfl
  clear e
  unfold f_X1_board
  refine S_aload_n (dc_X1_board 0 rfl) rfl ?_
  refine Sx.ask (fun _ i1 => ?_)
  refine S_rwV (d := k_d K - 1) (e_callV (b := a0) (As := []) (rest := []) ok_X1_taken rfl (Nat.le_of_ble_eq_true rfl) (dc_X1_board 1 rfl) ho q586 q588 (show e_cl[0]? = some (RX1, TX1, 37) from rfl) (e_sel.of qs2) (e_is_of i1) rfl (Nat.le_of_ble_eq_true rfl)) (by omega) (fun _ e => ct_X1_taken (by omega) e) (fun h1 e1 => ?_)
  refine S_aload_n (dc_X1_board 2 rfl) rfl ?_
  refine S_iconst_ 0 (dc_X1_board 3 rfl) rfl ?_
  refine S_putI (dc_X1_board 4 rfl) ho fl_X1_202_0_11 (fun _ _ => rfl) (Or.inl rfl) rfl rfl (fun h6 e6 => ?_)
  refine S_newB (dc_X1_board 5 rfl) ho (show e_cl[2]? = some (RX3, TX3, 7) from rfl) (by decide) q231 q232 q112 (fun x9 h9 u9 w9 => ?_)
  refine S_dup (dc_X1_board 6 rfl) rfl ?_
  refine S_rwV (d := k_d K - 1) (e_callIN (b := x9) (As := []) (rest := [.ref x9]) ok_X3_init rfl rfl rfl (Nat.le_of_ble_eq_true rfl) (dc_X1_board 7 rfl) ho q233 q234 rfl (Nat.le_of_ble_eq_true rfl)) (by omega) (fun _ e => ct_X3_init (by omega) e) (fun h13 e13 => ?_)
  refine S_astore_n (L' := [some (.ref a0), some (.ref x9), none]) (dc_X1_board 8 rfl) rfl ?_
  refine S_aload_n (dc_X1_board 9 rfl) rfl ?_
  refine S_getA (dc_X1_board 10 rfl) ho fl_X1_81_0_9 (fun _ _ => rfl) (fun x18 e18 => ?_)
  refine S_aload_n (dc_X1_board 11 rfl) rfl ?_
  refine Sx.ask (fun _ i22 => ?_)
  refine S_exI (d := k_d K - 1) (e_callV (b := x18) (As := [.ref x9]) (rest := []) ok_X6_read rfl (Nat.le_of_ble_eq_true rfl) (dc_X1_board 12 rfl) ho q590 q591 (show e_cl[4]? = some (RX6, TX6, 10) from rfl) (e_sel.of q592) (e_is_of i22) rfl (Nat.le_of_ble_eq_true rfl)) (by omega) (fun _ _ e => ct_X6_read hA (by omega) e) (fun z22 h22 e22 => ?_) (fun x22 h22 e22 => ?_)
  · refine SxX.cond (fun k22 => ?_)
    refine SxX.catch [] ⟨17, 55, 56, 13⟩ [] ho (by rw [hM]; rfl) (fun _ h => by cases h) (by decide) (by decide) q143 (by rw [k22]; exact q145) ?_
    refine S_astore_n (L' := [some (.ref a0), some (.ref x9), some (.ref z22.2)]) (dc_X1_board 32 rfl) rfl ?_
    refine S_aload_n (dc_X1_board 33 rfl) rfl ?_
    refine S_aload_n (dc_X1_board 34 rfl) rfl ?_
    refine S_getI (dc_X1_board 35 rfl) ho fl_X1_222_1_6 (fun _ _ => rfl) (fun x59 e59 => ?_)
    refine S_putI (dc_X1_board 36 rfl) ho fl_X1_202_0_11 (fun _ _ => rfl) (Or.inl rfl) rfl rfl (fun h62 e62 => ?_)
    refine S_iconst_ (-1) (dc_X1_board 37 rfl) rfl ?_
    refine S_aload_n (dc_X1_board 38 rfl) rfl ?_
    refine S_getI (dc_X1_board 39 rfl) ho fl_X1_225_1_7 (fun _ _ => rfl) (fun x67 e67 => ?_)
    refine S_isub (dc_X1_board 40 rfl) ?_
    exact S_iret (dc_X1_board 41 rfl) hT rfl (e_rqI hr)
  refine S_istore_n (L' := [some (.ref a0), some (.ref x9), some (.int x22)]) (dc_X1_board 13 rfl) rfl ?_
  refine S_aload_n (dc_X1_board 14 rfl) rfl ?_
  refine S_aload_n (dc_X1_board 15 rfl) rfl ?_
  refine S_putR (v := (some x9)) (dc_X1_board 16 rfl) ho fl_X1_63_0_6 (fun _ _ => rfl) (Or.inl rfl) rfl (fun h28 e28 => ?_)
  refine S_aload_n (dc_X1_board 17 rfl) rfl ?_
  refine S_getA (dc_X1_board 18 rfl) ho fl_X1_69_0_7 (fun _ _ => rfl) (fun x32 e32 => ?_)
  refine S_iconst_ 0 (dc_X1_board 19 rfl) rfl ?_
  refine S_putI (dc_X1_board 20 rfl) ho fl_X1_209_3_4 (fun _ _ => rfl) (Or.inl rfl) rfl rfl (fun h36 e36 => ?_)
  refine S_aload_n (dc_X1_board 21 rfl) rfl ?_
  refine S_iconst_ 0 (dc_X1_board 22 rfl) rfl ?_
  refine S_putI (dc_X1_board 23 rfl) ho fl_X1_212_0_33 (fun _ _ => rfl) (Or.inl rfl) rfl rfl (fun h41 e41 => ?_)
  refine S_aload_n (dc_X1_board 24 rfl) rfl ?_
  refine S_iconst_ 0 (dc_X1_board 25 rfl) rfl ?_
  refine S_putI (dc_X1_board 26 rfl) ho fl_X1_215_0_19 (fun _ _ => rfl) (Or.inl rfl) rfl rfl (fun h46 e46 => ?_)
  refine S_aload_n (dc_X1_board 27 rfl) rfl ?_
  refine S_null (dc_X1_board 28 rfl) ?_
  refine S_putR (v := none) (dc_X1_board 29 rfl) ho fl_X1_218_0_35 (fun _ _ => rfl) (Or.inl rfl) rfl (fun h51 e51 => ?_)
  refine S_iload_n (dc_X1_board 30 rfl) rfl ?_
  exact S_iret (dc_X1_board 31 rfl) hT rfl (e_rqI hr)
abbrev cX1_fault : ByteArray := prog_1_method_14_code
def yX1_fault : MethodName := ⟨"PegBands", "fault", "()I"⟩
def tb_X1_fault : List (Nat × Instr × Nat) := [(0, .aload_n 0, 1), (1, .getfield 202, 3), (4, .ireturn, 1)]
theorem tk_X1_fault : ∀ q ∈ tb_X1_fault, decode cX1_fault q.1 = .ok q.2 := by decide +kernel
theorem dc_X1_fault (k : Nat) {pc n : Nat} {i : Instr} (h : tb_X1_fault[k]? = some (pc, i, n)) : decode cX1_fault pc = .ok (i, n) := tk_X1_fault (pc, i, n) (List.mem_of_getElem? h)
abbrev mX1_fault : e_M := (yX1_fault, cX1_fault, 1, some (.int), [])
theorem ok_X1_fault : e_mok mX1_fault 0 := ⟨q837, q108, by decide +kernel, fun sig h => by cases h; rfl⟩
def f_X1_fault (h : e_H) (a0 : Nat) : Option Int32 :=
  Option.bind (e_fI h a0 0 11) (fun x1 =>
  some x1)
set_option maxHeartbeats 4000000 in
set_option maxRecDepth 100000 in
theorem ct_X1_fault {l : Launch} {D : e_D} {B : Heap} {d : Nat} {h : e_H} {a0 : Nat} {v : Int32} (hd : 1 ≤ d) (e : f_X1_fault h a0 = some v) : e_Run l D B d mX1_fault [.ref a0] h (.ok (some (.int v)), h) := by
  refine e_start [some (.ref a0)] (by decide) rfl rfl rfl (Nat.le_of_ble_eq_true rfl) (fun K hl0 hD0 hB0 hM hd0 hr => ?_)
  subst hl0 hD0 hB0 hd0
  have ho : (k_M K).1.cls = "PegBands" := by rw [hM]; rfl
  have hT : (k_M K).2.2.2.1 = some (.int) := by rw [hM]
  refine (show Sx K cX1_fault 0 [some (.ref a0)] [] h (f_X1_fault h a0) (fun w => w = v) from ?_) _ e rfl
  clear e
  unfold f_X1_fault
  refine S_aload_n (dc_X1_fault 0 rfl) rfl ?_
  refine S_getI (dc_X1_fault 1 rfl) ho fl_X1_202_0_11 (fun _ _ => rfl) (fun x1 e1 => ?_)
  exact S_iret (dc_X1_fault 2 rfl) hT rfl (fun q => by cases q; exact hr)
abbrev cX1_why : ByteArray := prog_1_method_15_code
def yX1_why : MethodName := ⟨"PegBands", "why", "()I"⟩
def tb_X1_why : List (Nat × Instr × Nat) := [(0, .aload_n 0, 1), (1, .getfield 228, 3), (4, .ireturn, 1)]
theorem tk_X1_why : ∀ q ∈ tb_X1_why, decode cX1_why q.1 = .ok q.2 := by decide +kernel
theorem dc_X1_why (k : Nat) {pc n : Nat} {i : Instr} (h : tb_X1_why[k]? = some (pc, i, n)) : decode cX1_why pc = .ok (i, n) := tk_X1_why (pc, i, n) (List.mem_of_getElem? h)
abbrev mX1_why : e_M := (yX1_why, cX1_why, 1, some (.int), [])
theorem ok_X1_why : e_mok mX1_why 0 := ⟨q841, q108, by decide +kernel, fun sig h => by cases h; rfl⟩
theorem fl_X1_228_0_12 : e_FL "PegBands" 228 0 12 := ⟨_, rfl, by decide, Or.inl q470⟩
def f_X1_why (h : e_H) (a0 : Nat) : Option Int32 :=
  Option.bind (e_fI h a0 0 12) (fun x1 =>
  some x1)
set_option maxHeartbeats 4000000 in
set_option maxRecDepth 100000 in
theorem ct_X1_why {l : Launch} {D : e_D} {B : Heap} {d : Nat} {h : e_H} {a0 : Nat} {v : Int32} (hd : 1 ≤ d) (e : f_X1_why h a0 = some v) : e_Run l D B d mX1_why [.ref a0] h (.ok (some (.int v)), h) := by
  refine e_start [some (.ref a0)] (by decide) rfl rfl rfl (Nat.le_of_ble_eq_true rfl) (fun K hl0 hD0 hB0 hM hd0 hr => ?_)
  subst hl0 hD0 hB0 hd0
  have ho : (k_M K).1.cls = "PegBands" := by rw [hM]; rfl
  have hT : (k_M K).2.2.2.1 = some (.int) := by rw [hM]
  refine (show Sx K cX1_why 0 [some (.ref a0)] [] h (f_X1_why h a0) (fun w => w = v) from ?_) _ e rfl
  clear e
  unfold f_X1_why
  refine S_aload_n (dc_X1_why 0 rfl) rfl ?_
  refine S_getI (dc_X1_why 1 rfl) ho fl_X1_228_0_12 (fun _ _ => rfl) (fun x1 e1 => ?_)
  exact S_iret (dc_X1_why 2 rfl) hT rfl (fun q => by cases q; exact hr)
abbrev cX1_isPlace : ByteArray := prog_1_method_16_code
def yX1_isPlace : MethodName := ⟨"PegBands", "isPlace", "(I)Z"⟩
def tb_X1_isPlace : List (Nat × Instr × Nat) := [(0, .iload_n 1, 1), (1, .ifCond .lt 25, 3), (4, .aload_n 0, 1), (5, .getfield 63, 3), (8, .iload_n 1, 1), (9, .bipush 10, 2), (11, .irem, 1), (12, .iload_n 1, 1), (13, .bipush 10, 2), (15, .idiv, 1), (16, .invokevirtual 231, 3), (19, .ifCond .eq 7, 3), (22, .iconst 1, 1), (23, .goto 4, 3), (26, .iconst 0, 1), (27, .ireturn, 1)]
theorem tk_X1_isPlace : ∀ q ∈ tb_X1_isPlace, decode cX1_isPlace q.1 = .ok q.2 := by decide +kernel
theorem dc_X1_isPlace (k : Nat) {pc n : Nat} {i : Instr} (h : tb_X1_isPlace[k]? = some (pc, i, n)) : decode cX1_isPlace pc = .ok (i, n) := tk_X1_isPlace (pc, i, n) (List.mem_of_getElem? h)
abbrev mX1_isPlace : e_M := (yX1_isPlace, cX1_isPlace, 2, some (.boolean), [])
theorem ok_X1_isPlace : e_mok mX1_isPlace 1 := ⟨q849, q108, by decide +kernel, fun sig h => by cases h; rfl⟩
def f_X1_isPlace (h : e_H) (a0 : Nat) (a1 : Int32) : Option Int32 :=
  if a1 < 0 then
    some 0
  else
    Option.bind (e_fA h a0 0 6) (fun x5 =>
    Option.bind (e_is h x5 2) (fun _ =>
    Option.bind (f_X3_isPlace h x5 (a1 - a1 / 10 * 10) (a1 / 10)) (fun x16 =>
    if x16 = 0 then
      some 0
    else
      some 1)))
set_option maxHeartbeats 4000000 in
set_option maxRecDepth 100000 in
theorem ct_X1_isPlace {l : Launch} {D : e_D} {B : Heap} {d : Nat} {h : e_H} {a0 : Nat} {a1 : Int32} {v : Int32} (hd : 3 ≤ d) (e : f_X1_isPlace h a0 a1 = some v) : e_Run l D B d mX1_isPlace [.ref a0, .int a1] h (.ok (some (.int v)), h) := by
  refine e_start [some (.ref a0), some (.int a1)] (by decide) rfl rfl rfl (Nat.le_of_ble_eq_true rfl) (fun K hl0 hD0 hB0 hM hd0 hr => ?_)
  subst hl0 hD0 hB0 hd0
  have ho : (k_M K).1.cls = "PegBands" := by rw [hM]; rfl
  have hT : (k_M K).2.2.2.1 = some (.boolean) := by rw [hM]
  refine (show Sx K cX1_isPlace 0 [some (.ref a0), some (.int a1)] [] h (f_X1_isPlace h a0 a1) (fun w => w = v) from ?_) _ e rfl
  clear e
  unfold f_X1_isPlace
  refine S_iload_n (dc_X1_isPlace 0 rfl) rfl ?_
  refine S_if_lt 26 (dc_X1_isPlace 1 rfl) rfl (fun c1 => ?_) (fun c1 => ?_)
  · refine S_iconst_ 0 (dc_X1_isPlace 14 rfl) rfl ?_
    exact S_iret (dc_X1_isPlace 15 rfl) hT rfl (fun q => by cases q; exact hr)
  · refine S_aload_n (dc_X1_isPlace 2 rfl) rfl ?_
    refine S_getA (dc_X1_isPlace 3 rfl) ho fl_X1_63_0_6 (fun _ _ => rfl) (fun x5 e5 => ?_)
    refine S_iload_n (dc_X1_isPlace 4 rfl) rfl ?_
    refine S_bipush_ 10 (dc_X1_isPlace 5 rfl) rfl ?_
    refine S_irem (dc_X1_isPlace 6 rfl) (by decide) ?_
    refine S_iload_n (dc_X1_isPlace 7 rfl) rfl ?_
    refine S_bipush_ 10 (dc_X1_isPlace 8 rfl) rfl ?_
    refine S_idiv (dc_X1_isPlace 9 rfl) (by decide) ?_
    refine Sx.ask (fun _ i16 => ?_)
    refine S_roI (d := k_d K - 1) (e_callV (b := x5) (As := [.int (a1 - a1 / 10 * 10), .int (a1 / 10)]) (rest := []) ok_X3_isPlace rfl (Nat.le_of_ble_eq_true rfl) (dc_X1_isPlace 10 rfl) ho q850 q782 (show e_cl[2]? = some (RX3, TX3, 7) from rfl) (e_sel.of q783) (e_is_of i16) rfl (Nat.le_of_ble_eq_true rfl)) (by omega) (fun _ e => ct_X3_isPlace (by omega) e) (fun x16 e16 => ?_)
    refine S_if_eq 26 (dc_X1_isPlace 11 rfl) rfl (fun c19 => ?_) (fun c19 => ?_)
    · refine S_iconst_ 0 (dc_X1_isPlace 14 rfl) rfl ?_
      exact S_iret (dc_X1_isPlace 15 rfl) hT rfl (fun q => by cases q; exact hr)
    · refine S_iconst_ 1 (dc_X1_isPlace 12 rfl) rfl ?_
      refine S_goto 27 (dc_X1_isPlace 13 rfl) rfl ?_
      exact S_iret (dc_X1_isPlace 15 rfl) hT rfl (fun q => by cases q; exact hr)
abbrev cX1_peg : ByteArray := prog_1_method_18_code
def yX1_peg : MethodName := ⟨"PegBands", "peg", "(I)I"⟩
def tb_X1_peg : List (Nat × Instr × Nat) := [(0, .aload_n 0, 1), (1, .iload_n 1, 1), (2, .invokevirtual 235, 3), (5, .ifCond .ne 7, 3), (8, .iconst (-1), 1), (9, .goto 20, 3), (12, .aload_n 0, 1), (13, .getfield 63, 3), (16, .getfield 238, 3), (19, .iload_n 1, 1), (20, .baload, 1), (21, .ifCond .eq 7, 3), (24, .iconst 0, 1), (25, .goto 4, 3), (28, .iconst 1, 1), (29, .ireturn, 1)]
theorem tk_X1_peg : ∀ q ∈ tb_X1_peg, decode cX1_peg q.1 = .ok q.2 := by decide +kernel
theorem dc_X1_peg (k : Nat) {pc n : Nat} {i : Instr} (h : tb_X1_peg[k]? = some (pc, i, n)) : decode cX1_peg pc = .ok (i, n) := tk_X1_peg (pc, i, n) (List.mem_of_getElem? h)
abbrev mX1_peg : e_M := (yX1_peg, cX1_peg, 2, some (.int), [])
theorem ok_X1_peg : e_mok mX1_peg 1 := ⟨q845, q108, by decide +kernel, fun sig h => by cases h; rfl⟩
theorem fl_X1_238_2_1 : e_FL "PegBands" 238 2 1 := ⟨_, rfl, by decide, Or.inr (Or.inr (Or.inl ⟨_, q247⟩))⟩
def f_X1_peg (h : e_H) (a0 : Nat) (a1 : Int32) : Option Int32 :=
  Option.bind (e_is h a0 0) (fun _ =>
  Option.bind (f_X1_isPlace h a0 a1) (fun x2 =>
  if x2 = 0 then
    some (-1)
  else
    Option.bind (e_fA h a0 0 6) (fun x13 =>
    Option.bind (e_fA h x13 2 1) (fun x16 =>
    Option.bind (e_aI h x16 2 a1) (fun x20 =>
    if x20 = 0 then
      some 1
    else
      some 0)))))
set_option maxHeartbeats 4000000 in
set_option maxRecDepth 100000 in
theorem ct_X1_peg {l : Launch} {D : e_D} {B : Heap} {d : Nat} {h : e_H} {a0 : Nat} {a1 : Int32} {v : Int32} (hd : 4 ≤ d) (e : f_X1_peg h a0 a1 = some v) : e_Run l D B d mX1_peg [.ref a0, .int a1] h (.ok (some (.int v)), h) := by
  refine e_start [some (.ref a0), some (.int a1)] (by decide) rfl rfl rfl (Nat.le_of_ble_eq_true rfl) (fun K hl0 hD0 hB0 hM hd0 hr => ?_)
  subst hl0 hD0 hB0 hd0
  have ho : (k_M K).1.cls = "PegBands" := by rw [hM]; rfl
  have hT : (k_M K).2.2.2.1 = some (.int) := by rw [hM]
  refine (show Sx K cX1_peg 0 [some (.ref a0), some (.int a1)] [] h (f_X1_peg h a0 a1) (fun w => w = v) from ?_) _ e rfl
  clear e
  unfold f_X1_peg
  refine S_aload_n (dc_X1_peg 0 rfl) rfl ?_
  refine S_iload_n (dc_X1_peg 1 rfl) rfl ?_
  refine Sx.ask (fun _ i2 => ?_)
  refine S_roI (d := k_d K - 1) (e_callV (b := a0) (As := [.int a1]) (rest := []) ok_X1_isPlace rfl (Nat.le_of_ble_eq_true rfl) (dc_X1_peg 2 rfl) ho q846 q848 (show e_cl[0]? = some (RX1, TX1, 37) from rfl) (e_sel.of qs5) (e_is_of i2) rfl (Nat.le_of_ble_eq_true rfl)) (by omega) (fun _ e => ct_X1_isPlace (by omega) e) (fun x2 e2 => ?_)
  refine S_if_ne 12 (dc_X1_peg 3 rfl) rfl (fun c5 => ?_) (fun c5 => ?_)
  · refine S_aload_n (dc_X1_peg 6 rfl) rfl ?_
    refine S_getA (dc_X1_peg 7 rfl) ho fl_X1_63_0_6 (fun _ _ => rfl) (fun x13 e13 => ?_)
    refine S_getA (dc_X1_peg 8 rfl) ho fl_X1_238_2_1 (fun _ _ => rfl) (fun x16 e16 => ?_)
    refine S_iload_n (dc_X1_peg 9 rfl) rfl ?_
    refine S_zald (dc_X1_peg 10 rfl) (fun x20 e20 => ?_)
    refine S_if_eq 28 (dc_X1_peg 11 rfl) rfl (fun c21 => ?_) (fun c21 => ?_)
    · refine S_iconst_ 1 (dc_X1_peg 14 rfl) rfl ?_
      exact S_iret (dc_X1_peg 15 rfl) hT rfl (fun q => by cases q; exact hr)
    · refine S_iconst_ 0 (dc_X1_peg 12 rfl) rfl ?_
      refine S_goto 29 (dc_X1_peg 13 rfl) rfl ?_
      exact S_iret (dc_X1_peg 15 rfl) hT rfl (fun q => by cases q; exact hr)
  · refine S_iconst_ (-1) (dc_X1_peg 4 rfl) rfl ?_
    refine S_goto 29 (dc_X1_peg 5 rfl) rfl ?_
    exact S_iret (dc_X1_peg 15 rfl) hT rfl (fun q => by cases q; exact hr)
abbrev cX1_isCorner : ByteArray := prog_1_method_20_code
def yX1_isCorner : MethodName := ⟨"PegBands", "isCorner", "(II)Z"⟩
def tb_X1_isCorner : List (Nat × Instr × Nat) := [(0, .aload_n 0, 1), (1, .iload_n 1, 1), (2, .invokevirtual 241, 3), (5, .ifCond .eq 29, 3), (8, .iload_n 2, 1), (9, .iconst 0, 1), (10, .aload_n 0, 1), (11, .getfield 63, 3), (14, .getfield 248, 3), (17, .iload_n 1, 1), (18, .aaload, 1), (19, .getfield 251, 3), (22, .iconst 1, 1), (23, .isub, 1), (24, .invokestatic 187, 3), (27, .ifCond .eq 7, 3), (30, .iconst 1, 1), (31, .goto 4, 3), (34, .iconst 0, 1), (35, .ireturn, 1)]
theorem tk_X1_isCorner : ∀ q ∈ tb_X1_isCorner, decode cX1_isCorner q.1 = .ok q.2 := by decide +kernel
theorem dc_X1_isCorner (k : Nat) {pc n : Nat} {i : Instr} (h : tb_X1_isCorner[k]? = some (pc, i, n)) : decode cX1_isCorner pc = .ok (i, n) := tk_X1_isCorner (pc, i, n) (List.mem_of_getElem? h)
abbrev mX1_isCorner : e_M := (yX1_isCorner, cX1_isCorner, 3, some (.boolean), [])
theorem ok_X1_isCorner : e_mok mX1_isCorner 2 := ⟨q858, q108, by decide +kernel, fun sig h => by cases h; rfl⟩
def f_X1_isCorner (h : e_H) (a0 : Nat) (a1 : Int32) (a2 : Int32) : Option Int32 :=
  Option.bind (e_is h a0 0) (fun _ =>
  Option.bind (f_X1_isBand h a0 a1) (fun x2 =>
  if x2 = 0 then
    some 0
  else
    Option.bind (e_fA h a0 0 6) (fun x11 =>
    Option.bind (e_fA h x11 2 0) (fun x14 =>
    Option.bind (e_aA h x14 4 a1) (fun x18 =>
    Option.bind (e_fI h x18 6 2) (fun x19 =>
    Option.bind (f_X1_isIn a2 0 (x19 - 1)) (fun x24 =>
    if x24 = 0 then
      some 0
    else
      some 1)))))))
set_option maxHeartbeats 4000000 in
set_option maxRecDepth 100000 in
theorem ct_X1_isCorner {l : Launch} {D : e_D} {B : Heap} {d : Nat} {h : e_H} {a0 : Nat} {a1 : Int32} {a2 : Int32} {v : Int32} (hd : 3 ≤ d) (e : f_X1_isCorner h a0 a1 a2 = some v) : e_Run l D B d mX1_isCorner [.ref a0, .int a1, .int a2] h (.ok (some (.int v)), h) := by
  refine e_start [some (.ref a0), some (.int a1), some (.int a2)] (by decide) rfl rfl rfl (Nat.le_of_ble_eq_true rfl) (fun K hl0 hD0 hB0 hM hd0 hr => ?_)
  subst hl0 hD0 hB0 hd0
  have ho : (k_M K).1.cls = "PegBands" := by rw [hM]; rfl
  have hT : (k_M K).2.2.2.1 = some (.boolean) := by rw [hM]
  refine (show Sx K cX1_isCorner 0 [some (.ref a0), some (.int a1), some (.int a2)] [] h (f_X1_isCorner h a0 a1 a2) (fun w => w = v) from ?_) _ e rfl
  clear e
  unfold f_X1_isCorner
  refine S_aload_n (dc_X1_isCorner 0 rfl) rfl ?_
  refine S_iload_n (dc_X1_isCorner 1 rfl) rfl ?_
  refine Sx.ask (fun _ i2 => ?_)
  refine S_roI (d := k_d K - 1) (e_callV (b := a0) (As := [.int a1]) (rest := []) ok_X1_isBand rfl (Nat.le_of_ble_eq_true rfl) (dc_X1_isCorner 2 rfl) ho q859 q861 (show e_cl[0]? = some (RX1, TX1, 37) from rfl) (e_sel.of qs7) (e_is_of i2) rfl (Nat.le_of_ble_eq_true rfl)) (by omega) (fun _ e => ct_X1_isBand (by omega) e) (fun x2 e2 => ?_)
  refine S_if_eq 34 (dc_X1_isCorner 3 rfl) rfl (fun c5 => ?_) (fun c5 => ?_)
  · refine S_iconst_ 0 (dc_X1_isCorner 18 rfl) rfl ?_
    exact S_iret (dc_X1_isCorner 19 rfl) hT rfl (fun q => by cases q; exact hr)
  · refine S_iload_n (dc_X1_isCorner 4 rfl) rfl ?_
    refine S_iconst_ 0 (dc_X1_isCorner 5 rfl) rfl ?_
    refine S_aload_n (dc_X1_isCorner 6 rfl) rfl ?_
    refine S_getA (dc_X1_isCorner 7 rfl) ho fl_X1_63_0_6 (fun _ _ => rfl) (fun x11 e11 => ?_)
    refine S_getA (dc_X1_isCorner 8 rfl) ho fl_X1_248_2_0 (fun _ _ => rfl) (fun x14 e14 => ?_)
    refine S_iload_n (dc_X1_isCorner 9 rfl) rfl ?_
    refine S_aaldA4 (dc_X1_isCorner 10 rfl) (fun x18 e18 => ?_)
    refine S_getI (dc_X1_isCorner 11 rfl) ho fl_X1_251_6_2 (fun _ _ => rfl) (fun x19 e19 => ?_)
    refine S_iconst_ 1 (dc_X1_isCorner 12 rfl) rfl ?_
    refine S_isub (dc_X1_isCorner 13 rfl) ?_
    refine S_roI (d := k_d K - 1) (e_callS (As := [.int a2, .int 0, .int (x19 - 1)]) (rest := []) ok_X1_isIn rfl (Nat.le_of_ble_eq_true rfl) (dc_X1_isCorner 14 rfl) ho q825 q616 rfl (Nat.le_of_ble_eq_true rfl)) (by omega) (fun _ e => ct_X1_isIn (by omega) e) (fun x24 e24 => ?_)
    refine S_if_eq 34 (dc_X1_isCorner 15 rfl) rfl (fun c27 => ?_) (fun c27 => ?_)
    · refine S_iconst_ 0 (dc_X1_isCorner 18 rfl) rfl ?_
      exact S_iret (dc_X1_isCorner 19 rfl) hT rfl (fun q => by cases q; exact hr)
    · refine S_iconst_ 1 (dc_X1_isCorner 16 rfl) rfl ?_
      refine S_goto 35 (dc_X1_isCorner 17 rfl) rfl ?_
      exact S_iret (dc_X1_isCorner 19 rfl) hT rfl (fun q => by cases q; exact hr)
abbrev cX1_corner : ByteArray := prog_1_method_21_code
def yX1_corner : MethodName := ⟨"PegBands", "corner", "(II)I"⟩
def tb_X1_corner : List (Nat × Instr × Nat) := [(0, .aload_n 0, 1), (1, .iload_n 1, 1), (2, .iload_n 2, 1), (3, .invokevirtual 267, 3), (6, .ifCond .eq 38, 3), (9, .bipush 10, 2), (11, .aload_n 0, 1), (12, .getfield 63, 3), (15, .getfield 248, 3), (18, .iload_n 1, 1), (19, .aaload, 1), (20, .getfield 270, 3), (23, .iload_n 2, 1), (24, .iaload, 1), (25, .imul, 1), (26, .aload_n 0, 1), (27, .getfield 63, 3), (30, .getfield 248, 3), (33, .iload_n 1, 1), (34, .aaload, 1), (35, .getfield 273, 3), (38, .iload_n 2, 1), (39, .iaload, 1), (40, .iadd, 1), (41, .goto 4, 3), (44, .iconst (-1), 1), (45, .ireturn, 1)]
theorem tk_X1_corner : ∀ q ∈ tb_X1_corner, decode cX1_corner q.1 = .ok q.2 := by decide +kernel
theorem dc_X1_corner (k : Nat) {pc n : Nat} {i : Instr} (h : tb_X1_corner[k]? = some (pc, i, n)) : decode cX1_corner pc = .ok (i, n) := tk_X1_corner (pc, i, n) (List.mem_of_getElem? h)
abbrev mX1_corner : e_M := (yX1_corner, cX1_corner, 3, some (.int), [])
theorem ok_X1_corner : e_mok mX1_corner 2 := ⟨q854, q108, by decide +kernel, fun sig h => by cases h; rfl⟩
def f_X1_corner (h : e_H) (a0 : Nat) (a1 : Int32) (a2 : Int32) : Option Int32 :=
  Option.bind (e_is h a0 0) (fun _ =>
  Option.bind (f_X1_isCorner h a0 a1 a2) (fun x3 =>
  if x3 = 0 then
    some (-1)
  else
    Option.bind (e_fA h a0 0 6) (fun x12 =>
    Option.bind (e_fA h x12 2 0) (fun x15 =>
    Option.bind (e_aA h x15 4 a1) (fun x19 =>
    Option.bind (e_fA h x19 6 1) (fun x20 =>
    Option.bind (e_aI h x20 0 a2) (fun x24 =>
    Option.bind (e_fA h a0 0 6) (fun x27 =>
    Option.bind (e_fA h x27 2 0) (fun x30 =>
    Option.bind (e_aA h x30 4 a1) (fun x34 =>
    Option.bind (e_fA h x34 6 0) (fun x35 =>
    Option.bind (e_aI h x35 0 a2) (fun x39 =>
    some ((10 * x24) + x39)))))))))))))
set_option maxHeartbeats 4000000 in
set_option maxRecDepth 100000 in
theorem ct_X1_corner {l : Launch} {D : e_D} {B : Heap} {d : Nat} {h : e_H} {a0 : Nat} {a1 : Int32} {a2 : Int32} {v : Int32} (hd : 4 ≤ d) (e : f_X1_corner h a0 a1 a2 = some v) : e_Run l D B d mX1_corner [.ref a0, .int a1, .int a2] h (.ok (some (.int v)), h) := by
  refine e_start [some (.ref a0), some (.int a1), some (.int a2)] (by decide) rfl rfl rfl (Nat.le_of_ble_eq_true rfl) (fun K hl0 hD0 hB0 hM hd0 hr => ?_)
  subst hl0 hD0 hB0 hd0
  have ho : (k_M K).1.cls = "PegBands" := by rw [hM]; rfl
  have hT : (k_M K).2.2.2.1 = some (.int) := by rw [hM]
  refine (show Sx K cX1_corner 0 [some (.ref a0), some (.int a1), some (.int a2)] [] h (f_X1_corner h a0 a1 a2) (fun w => w = v) from ?_) _ e rfl
  clear e
  unfold f_X1_corner
  refine S_aload_n (dc_X1_corner 0 rfl) rfl ?_
  refine S_iload_n (dc_X1_corner 1 rfl) rfl ?_
  refine S_iload_n (dc_X1_corner 2 rfl) rfl ?_
  refine Sx.ask (fun _ i3 => ?_)
  refine S_roI (d := k_d K - 1) (e_callV (b := a0) (As := [.int a1, .int a2]) (rest := []) ok_X1_isCorner rfl (Nat.le_of_ble_eq_true rfl) (dc_X1_corner 3 rfl) ho q855 q857 (show e_cl[0]? = some (RX1, TX1, 37) from rfl) (e_sel.of qs6) (e_is_of i3) rfl (Nat.le_of_ble_eq_true rfl)) (by omega) (fun _ e => ct_X1_isCorner (by omega) e) (fun x3 e3 => ?_)
  refine S_if_eq 44 (dc_X1_corner 4 rfl) rfl (fun c6 => ?_) (fun c6 => ?_)
  · refine S_iconst_ (-1) (dc_X1_corner 25 rfl) rfl ?_
    exact S_iret (dc_X1_corner 26 rfl) hT rfl (fun q => by cases q; exact hr)
  · refine S_bipush_ 10 (dc_X1_corner 5 rfl) rfl ?_
    refine S_aload_n (dc_X1_corner 6 rfl) rfl ?_
    refine S_getA (dc_X1_corner 7 rfl) ho fl_X1_63_0_6 (fun _ _ => rfl) (fun x12 e12 => ?_)
    refine S_getA (dc_X1_corner 8 rfl) ho fl_X1_248_2_0 (fun _ _ => rfl) (fun x15 e15 => ?_)
    refine S_iload_n (dc_X1_corner 9 rfl) rfl ?_
    refine S_aaldA4 (dc_X1_corner 10 rfl) (fun x19 e19 => ?_)
    refine S_getA (dc_X1_corner 11 rfl) ho fl_X1_270_6_1 (fun _ _ => rfl) (fun x20 e20 => ?_)
    refine S_iload_n (dc_X1_corner 12 rfl) rfl ?_
    refine S_iald (dc_X1_corner 13 rfl) (fun x24 e24 => ?_)
    refine S_imul (dc_X1_corner 14 rfl) ?_
    refine S_aload_n (dc_X1_corner 15 rfl) rfl ?_
    refine S_getA (dc_X1_corner 16 rfl) ho fl_X1_63_0_6 (fun _ _ => rfl) (fun x27 e27 => ?_)
    refine S_getA (dc_X1_corner 17 rfl) ho fl_X1_248_2_0 (fun _ _ => rfl) (fun x30 e30 => ?_)
    refine S_iload_n (dc_X1_corner 18 rfl) rfl ?_
    refine S_aaldA4 (dc_X1_corner 19 rfl) (fun x34 e34 => ?_)
    refine S_getA (dc_X1_corner 20 rfl) ho fl_X1_273_6_0 (fun _ _ => rfl) (fun x35 e35 => ?_)
    refine S_iload_n (dc_X1_corner 21 rfl) rfl ?_
    refine S_iald (dc_X1_corner 22 rfl) (fun x39 e39 => ?_)
    refine S_iadd (dc_X1_corner 23 rfl) ?_
    refine S_goto 45 (dc_X1_corner 24 rfl) rfl ?_
    exact S_iret (dc_X1_corner 26 rfl) hT rfl (fun q => by cases q; exact hr)
abbrev cX1_side : ByteArray := prog_1_method_22_code
def yX1_side : MethodName := ⟨"PegBands", "side", "(II)I"⟩
def tb_X1_side : List (Nat × Instr × Nat) := [(0, .aload_n 0, 1), (1, .iload_n 1, 1), (2, .iload_n 2, 1), (3, .invokevirtual 267, 3), (6, .ifCond .eq 19, 3), (9, .aload_n 0, 1), (10, .getfield 63, 3), (13, .getfield 248, 3), (16, .iload_n 1, 1), (17, .aaload, 1), (18, .iload_n 2, 1), (19, .invokevirtual 276, 3), (22, .goto 4, 3), (25, .iconst (-1), 1), (26, .ireturn, 1)]
theorem tk_X1_side : ∀ q ∈ tb_X1_side, decode cX1_side q.1 = .ok q.2 := by decide +kernel
theorem dc_X1_side (k : Nat) {pc n : Nat} {i : Instr} (h : tb_X1_side[k]? = some (pc, i, n)) : decode cX1_side pc = .ok (i, n) := tk_X1_side (pc, i, n) (List.mem_of_getElem? h)
abbrev mX1_side : e_M := (yX1_side, cX1_side, 3, some (.int), [])
theorem ok_X1_side : e_mok mX1_side 2 := ⟨q866, q108, by decide +kernel, fun sig h => by cases h; rfl⟩
def f_X1_side (h : e_H) (a0 : Nat) (a1 : Int32) (a2 : Int32) : Option Int32 :=
  Option.bind (e_is h a0 0) (fun _ =>
  Option.bind (f_X1_isCorner h a0 a1 a2) (fun x3 =>
  if x3 = 0 then
    some (-1)
  else
    Option.bind (e_fA h a0 0 6) (fun x10 =>
    Option.bind (e_fA h x10 2 0) (fun x13 =>
    Option.bind (e_aA h x13 4 a1) (fun x17 =>
    Option.bind (e_is h x17 6) (fun _ =>
    Option.bind (f_X8_square h x17 a2) (fun x19 =>
    some x19)))))))
set_option maxHeartbeats 4000000 in
set_option maxRecDepth 100000 in
theorem ct_X1_side {l : Launch} {D : e_D} {B : Heap} {d : Nat} {h : e_H} {a0 : Nat} {a1 : Int32} {a2 : Int32} {v : Int32} (hd : 4 ≤ d) (e : f_X1_side h a0 a1 a2 = some v) : e_Run l D B d mX1_side [.ref a0, .int a1, .int a2] h (.ok (some (.int v)), h) := by
  refine e_start [some (.ref a0), some (.int a1), some (.int a2)] (by decide) rfl rfl rfl (Nat.le_of_ble_eq_true rfl) (fun K hl0 hD0 hB0 hM hd0 hr => ?_)
  subst hl0 hD0 hB0 hd0
  have ho : (k_M K).1.cls = "PegBands" := by rw [hM]; rfl
  have hT : (k_M K).2.2.2.1 = some (.int) := by rw [hM]
  refine (show Sx K cX1_side 0 [some (.ref a0), some (.int a1), some (.int a2)] [] h (f_X1_side h a0 a1 a2) (fun w => w = v) from ?_) _ e rfl
  clear e
  unfold f_X1_side
  refine S_aload_n (dc_X1_side 0 rfl) rfl ?_
  refine S_iload_n (dc_X1_side 1 rfl) rfl ?_
  refine S_iload_n (dc_X1_side 2 rfl) rfl ?_
  refine Sx.ask (fun _ i3 => ?_)
  refine S_roI (d := k_d K - 1) (e_callV (b := a0) (As := [.int a1, .int a2]) (rest := []) ok_X1_isCorner rfl (Nat.le_of_ble_eq_true rfl) (dc_X1_side 3 rfl) ho q855 q857 (show e_cl[0]? = some (RX1, TX1, 37) from rfl) (e_sel.of qs6) (e_is_of i3) rfl (Nat.le_of_ble_eq_true rfl)) (by omega) (fun _ e => ct_X1_isCorner (by omega) e) (fun x3 e3 => ?_)
  refine S_if_eq 25 (dc_X1_side 4 rfl) rfl (fun c6 => ?_) (fun c6 => ?_)
  · refine S_iconst_ (-1) (dc_X1_side 13 rfl) rfl ?_
    exact S_iret (dc_X1_side 14 rfl) hT rfl (fun q => by cases q; exact hr)
  · refine S_aload_n (dc_X1_side 5 rfl) rfl ?_
    refine S_getA (dc_X1_side 6 rfl) ho fl_X1_63_0_6 (fun _ _ => rfl) (fun x10 e10 => ?_)
    refine S_getA (dc_X1_side 7 rfl) ho fl_X1_248_2_0 (fun _ _ => rfl) (fun x13 e13 => ?_)
    refine S_iload_n (dc_X1_side 8 rfl) rfl ?_
    refine S_aaldA4 (dc_X1_side 9 rfl) (fun x17 e17 => ?_)
    refine S_iload_n (dc_X1_side 10 rfl) rfl ?_
    refine Sx.ask (fun _ i19 => ?_)
    refine S_roI (d := k_d K - 1) (e_callV (b := x17) (As := [.int a2]) (rest := []) ok_X8_square rfl (Nat.le_of_ble_eq_true rfl) (dc_X1_side 11 rfl) ho q867 q868 (show e_cl[6]? = some (RX8, TX8, 4) from rfl) (e_sel.of q869) (e_is_of i19) rfl (Nat.le_of_ble_eq_true rfl)) (by omega) (fun _ e => ct_X8_square (by omega) e) (fun x19 e19 => ?_)
    refine S_goto 26 (dc_X1_side 12 rfl) rfl ?_
    exact S_iret (dc_X1_side 14 rfl) hT rfl (fun q => by cases q; exact hr)
abbrev cX1_over : ByteArray := prog_1_method_23_code
def yX1_over : MethodName := ⟨"PegBands", "over", "(II)I"⟩
def tb_X1_over : List (Nat × Instr × Nat) := [(0, .aload_n 0, 1), (1, .iload_n 1, 1), (2, .invokevirtual 235, 3), (5, .ifCond .eq 12, 3), (8, .iload_n 2, 1), (9, .iconst 0, 1), (10, .iconst 1, 1), (11, .invokestatic 187, 3), (14, .ifCond .ne 5, 3), (17, .iconst (-1), 1), (18, .ireturn, 1), (19, .iconst 0, 1), (20, .istore_n 3, 1), (21, .iconst 0, 1), (22, .istore 4, 2), (24, .iload 4, 2), (26, .aload_n 0, 1), (27, .getfield 63, 3), (30, .getfield 234, 3), (33, .if_icmp .ge 47, 3), (36, .aload_n 0, 1), (37, .getfield 63, 3), (40, .getfield 248, 3), (43, .iload 4, 2), (45, .aaload, 1), (46, .iconst 2, 1), (47, .iload_n 1, 1), (48, .bipush 10, 2), (50, .irem, 1), (51, .imul, 1), (52, .iconst 2, 1), (53, .iload_n 1, 1), (54, .bipush 10, 2), (56, .idiv, 1), (57, .imul, 1), (58, .invokevirtual 279, 3), (61, .iconst 2, 1), (62, .iload_n 2, 1), (63, .isub, 1), (64, .if_icmp .ne 10, 3), (67, .iload_n 3, 1), (68, .iconst 1, 1), (69, .iload 4, 2), (71, .ishl, 1), (72, .ior, 1), (73, .istore_n 3, 1), (74, .iinc 4 1, 3), (77, .goto (-53), 3), (80, .iload_n 3, 1), (81, .ireturn, 1)]
theorem tk_X1_over : ∀ q ∈ tb_X1_over, decode cX1_over q.1 = .ok q.2 := by decide +kernel
theorem dc_X1_over (k : Nat) {pc n : Nat} {i : Instr} (h : tb_X1_over[k]? = some (pc, i, n)) : decode cX1_over pc = .ok (i, n) := tk_X1_over (pc, i, n) (List.mem_of_getElem? h)
abbrev mX1_over : e_M := (yX1_over, cX1_over, 5, some (.int), [])
theorem ok_X1_over : e_mok mX1_over 2 := ⟨q874, q108, by decide +kernel, fun sig h => by cases h; rfl⟩
def lp_X1_over_24 (F : Nat) (h : e_H) (a0 : Nat) (a1 : Int32) (a2 : Int32) : Nat → Int32 → Int32 → Option (Int32)
  | 0, _, _ => none
  | n + 1, x3_24, x4_24 =>
    Option.bind (e_fA h a0 0 6) (fun x27 =>
    Option.bind (e_fI h x27 2 4) (fun x30 =>
    if x30 ≤ x4_24 then
      some x3_24
    else
      Option.bind (e_fA h a0 0 6) (fun x37 =>
      Option.bind (e_fA h x37 2 0) (fun x40 =>
      Option.bind (e_aA h x40 4 x4_24) (fun x45 =>
      Option.bind (e_is h x45 6) (fun _ =>
      Option.bind (f_X8_place F h x45 (2 * (a1 - a1 / 10 * 10)) (2 * (a1 / 10))) (fun x58 =>
      Option.bind (
          if x58 = (2 - a2) then
            Option.bind (some (x3_24 ||| (1 <<< (x4_24 &&& 31)))) (fun x73 =>
            some x73)
          else
            some x3_24
        : Option (Int32)) (fun x3_74_2 =>
      Option.bind (some (x4_24 + 1)) (fun x74 =>
      lp_X1_over_24 F h a0 a1 a2 n x3_74_2 x74)))))))))
def f_X1_over (F : Nat) (h : e_H) (a0 : Nat) (a1 : Int32) (a2 : Int32) : Option Int32 :=
  Option.bind (e_is h a0 0) (fun _ =>
  Option.bind (f_X1_isPlace h a0 a1) (fun x2 =>
  if x2 = 0 then
    some (-1)
  else
    Option.bind (f_X1_isIn a2 0 1) (fun x11 =>
    if x11 = 0 then
      some (-1)
    else
      Option.bind (
          lp_X1_over_24 F h a0 a1 a2 F 0 0
        : Option (Int32)) (fun x3_80_1 =>
      some x3_80_1))))
set_option maxHeartbeats 4000000 in
set_option maxRecDepth 100000 in
theorem ct_X1_over {l : Launch} {D : e_D} {B : Heap} {F : Nat} {d : Nat} {h : e_H} {a0 : Nat} {a1 : Int32} {a2 : Int32} {v : Int32} (hd : 4 ≤ d) (e : f_X1_over F h a0 a1 a2 = some v) : e_Run l D B d mX1_over [.ref a0, .int a1, .int a2] h (.ok (some (.int v)), h) := by
  refine e_start [some (.ref a0), some (.int a1), some (.int a2), none, none] (by decide) rfl rfl rfl (Nat.le_of_ble_eq_true rfl) (fun K hl0 hD0 hB0 hM hd0 hr => ?_)
  subst hl0 hD0 hB0 hd0
  have ho : (k_M K).1.cls = "PegBands" := by rw [hM]; rfl
  have hT : (k_M K).2.2.2.1 = some (.int) := by rw [hM]
  refine (show Sx K cX1_over 0 [some (.ref a0), some (.int a1), some (.int a2), none, none] [] h (f_X1_over F h a0 a1 a2) (fun w => w = v) from ?_) _ e rfl
  clear e
  unfold f_X1_over
  refine S_aload_n (dc_X1_over 0 rfl) rfl ?_
  refine S_iload_n (dc_X1_over 1 rfl) rfl ?_
  refine Sx.ask (fun _ i2 => ?_)
  refine S_roI (d := k_d K - 1) (e_callV (b := a0) (As := [.int a1]) (rest := []) ok_X1_isPlace rfl (Nat.le_of_ble_eq_true rfl) (dc_X1_over 2 rfl) ho q846 q848 (show e_cl[0]? = some (RX1, TX1, 37) from rfl) (e_sel.of qs5) (e_is_of i2) rfl (Nat.le_of_ble_eq_true rfl)) (by omega) (fun _ e => ct_X1_isPlace (by omega) e) (fun x2 e2 => ?_)
  refine S_if_eq 17 (dc_X1_over 3 rfl) rfl (fun c5 => ?_) (fun c5 => ?_)
  · refine S_iconst_ (-1) (dc_X1_over 9 rfl) rfl ?_
    exact S_iret (dc_X1_over 10 rfl) hT rfl (fun q => by cases q; exact hr)
  · refine S_iload_n (dc_X1_over 4 rfl) rfl ?_
    refine S_iconst_ 0 (dc_X1_over 5 rfl) rfl ?_
    refine S_iconst_ 1 (dc_X1_over 6 rfl) rfl ?_
    refine S_roI (d := k_d K - 1) (e_callS (As := [.int a2, .int 0, .int 1]) (rest := []) ok_X1_isIn rfl (Nat.le_of_ble_eq_true rfl) (dc_X1_over 7 rfl) ho q825 q616 rfl (Nat.le_of_ble_eq_true rfl)) (by omega) (fun _ e => ct_X1_isIn (by omega) e) (fun x11 e11 => ?_)
    refine S_if_ne 19 (dc_X1_over 8 rfl) rfl (fun c14 => ?_) (fun c14 => ?_)
    · refine S_iconst_ 0 (dc_X1_over 11 rfl) rfl ?_
      refine S_istore_n (L' := [some (.ref a0), some (.int a1), some (.int a2), some (.int 0), none]) (dc_X1_over 12 rfl) rfl ?_
      refine S_iconst_ 0 (dc_X1_over 13 rfl) rfl ?_
      refine S_istore (L' := [some (.ref a0), some (.int a1), some (.int a2), some (.int 0), some (.int 0)]) (dc_X1_over 14 rfl) rfl ?_
      refine Sx.regK1 (pc2 := 80) (L2 := fun (x3_80_1 : Int32) => [none, none, none, some (.int x3_80_1), none]) (st2 := fun (x3_80_1 : Int32) => []) (h2 := fun (x3_80_1 : Int32) => h) ?_ (fun Q1 hK1 => ?_)
      · intro x3_80_1
        show Sx K cX1_over 80 [none, none, none, some (.int x3_80_1), none] [] h _ _
        refine S_iload_n (dc_X1_over 48 rfl) rfl ?_
        exact S_iret (dc_X1_over 49 rfl) hT rfl (fun q => by cases q; exact hr)
      · have hK1 : ∀ (x3_80_1 : Int32), Sx K cX1_over 80 [none, none, none, some (.int x3_80_1), none] [] h (some x3_80_1) Q1 := hK1
        have ih1 : ∀ (n : Nat) (x3_24 : Int32) (x4_24 : Int32), Sx K cX1_over 24 [some (.ref a0), some (.int a1), some (.int a2), some (.int x3_24), some (.int x4_24)] [] h (lp_X1_over_24 F h a0 a1 a2 n x3_24 x4_24) Q1 := by
          intro n
          induction n with
          | zero => intro x3_24 x4_24; exact Sx.none
          | succ n ih1 =>
            intro x3_24 x4_24
            rw [lp_X1_over_24.eq_2]
            refine S_iload (dc_X1_over 15 rfl) rfl ?_
            refine S_aload_n (dc_X1_over 16 rfl) rfl ?_
            refine S_getA (dc_X1_over 17 rfl) ho fl_X1_63_0_6 (fun _ _ => rfl) (fun x27 e27 => ?_)
            refine S_getI (dc_X1_over 18 rfl) ho fl_X1_234_2_4 (fun _ _ => rfl) (fun x30 e30 => ?_)
            refine S_icmp_ge 80 (dc_X1_over 19 rfl) rfl (fun c33 => ?_) (fun c33 => ?_)
            · refine Sx.cut [false, false, false, true, false] ?_
              exact hK1 x3_24
            · refine S_aload_n (dc_X1_over 20 rfl) rfl ?_
              refine S_getA (dc_X1_over 21 rfl) ho fl_X1_63_0_6 (fun _ _ => rfl) (fun x37 e37 => ?_)
              refine S_getA (dc_X1_over 22 rfl) ho fl_X1_248_2_0 (fun _ _ => rfl) (fun x40 e40 => ?_)
              refine S_iload (dc_X1_over 23 rfl) rfl ?_
              refine S_aaldA4 (dc_X1_over 24 rfl) (fun x45 e45 => ?_)
              refine S_iconst_ 2 (dc_X1_over 25 rfl) rfl ?_
              refine S_iload_n (dc_X1_over 26 rfl) rfl ?_
              refine S_bipush_ 10 (dc_X1_over 27 rfl) rfl ?_
              refine S_irem (dc_X1_over 28 rfl) (by decide) ?_
              refine S_imul (dc_X1_over 29 rfl) ?_
              refine S_iconst_ 2 (dc_X1_over 30 rfl) rfl ?_
              refine S_iload_n (dc_X1_over 31 rfl) rfl ?_
              refine S_bipush_ 10 (dc_X1_over 32 rfl) rfl ?_
              refine S_idiv (dc_X1_over 33 rfl) (by decide) ?_
              refine S_imul (dc_X1_over 34 rfl) ?_
              refine Sx.ask (fun _ i58 => ?_)
              refine S_roI (d := k_d K - 1) (e_callV (b := x45) (As := [.int (2 * (a1 - a1 / 10 * 10)), .int (2 * (a1 / 10))]) (rest := []) ok_X8_place rfl (Nat.le_of_ble_eq_true rfl) (dc_X1_over 35 rfl) ho q875 q876 (show e_cl[6]? = some (RX8, TX8, 4) from rfl) (e_sel.of q877) (e_is_of i58) rfl (Nat.le_of_ble_eq_true rfl)) (by omega) (fun _ e => ct_X8_place (by omega) e) (fun x58 e58 => ?_)
              refine S_iconst_ 2 (dc_X1_over 36 rfl) rfl ?_
              refine S_iload_n (dc_X1_over 37 rfl) rfl ?_
              refine S_isub (dc_X1_over 38 rfl) ?_
              refine Sx.regK1 (pc2 := 74) (L2 := fun (x3_74_2 : Int32) => [some (.ref a0), some (.int a1), some (.int a2), some (.int x3_74_2), some (.int x4_24)]) (st2 := fun (x3_74_2 : Int32) => []) (h2 := fun (x3_74_2 : Int32) => h) ?_ (fun Q2 hK2 => ?_)
              · intro x3_74_2
                show Sx K cX1_over 74 [some (.ref a0), some (.int a1), some (.int a2), some (.int x3_74_2), some (.int x4_24)] [] h _ _
                refine S_iincN 1 (L' := fun x74 => [some (.ref a0), some (.int a1), some (.int a2), some (.int x3_74_2), some (.int x74)]) (dc_X1_over 46 rfl) rfl rfl (fun _ => rfl) (fun x74 n74 => ?_)
                refine S_goto 24 (dc_X1_over 47 rfl) rfl ?_
                exact ih1 x3_74_2 x74
              · have hK2 : ∀ (x3_74_2 : Int32), Sx K cX1_over 74 [some (.ref a0), some (.int a1), some (.int a2), some (.int x3_74_2), some (.int x4_24)] [] h (some x3_74_2) Q2 := hK2
                refine S_icmp_ne 74 (dc_X1_over 39 rfl) rfl (fun c64 => ?_) (fun c64 => ?_)
                · exact hK2 x3_24
                · refine S_iload_n (dc_X1_over 40 rfl) rfl ?_
                  refine S_iconst_ 1 (dc_X1_over 41 rfl) rfl ?_
                  refine S_iload (dc_X1_over 42 rfl) rfl ?_
                  refine S_ishl (dc_X1_over 43 rfl) ?_
                  refine S_ior (dc_X1_over 44 rfl) ?_
                  refine Sx.nameI (fun x73 n73 => ?_)
                  refine S_istore_n (L' := [some (.ref a0), some (.int a1), some (.int a2), some (.int x73), some (.int x4_24)]) (dc_X1_over 45 rfl) rfl ?_
                  exact hK2 x73
        exact ih1 F 0 0
    · refine S_iconst_ (-1) (dc_X1_over 9 rfl) rfl ?_
      exact S_iret (dc_X1_over 10 rfl) hT rfl (fun q => by cases q; exact hr)
abbrev cX1_cross : ByteArray := prog_1_method_24_code
def yX1_cross : MethodName := ⟨"PegBands", "cross", "(III)I"⟩
def tb_X1_cross : List (Nat × Instr × Nat) := [(0, .aload_n 0, 1), (1, .iload_n 1, 1), (2, .invokevirtual 241, 3), (5, .ifCond .eq 52, 3), (8, .aload_n 0, 1), (9, .iload_n 2, 1), (10, .invokevirtual 241, 3), (13, .ifCond .eq 44, 3), (16, .iload_n 1, 1), (17, .iload_n 2, 1), (18, .if_icmp .eq 39, 3), (21, .iload_n 3, 1), (22, .iconst 0, 1), (23, .iconst 1, 1), (24, .invokestatic 187, 3), (27, .ifCond .eq 30, 3), (30, .aload_n 0, 1), (31, .getfield 63, 3), (34, .getfield 248, 3), (37, .iload_n 1, 1), (38, .aaload, 1), (39, .aload_n 0, 1), (40, .getfield 63, 3), (43, .getfield 248, 3), (46, .iload_n 2, 1), (47, .aaload, 1), (48, .iconst 1, 1), (49, .iload_n 3, 1), (50, .iadd, 1), (51, .invokevirtual 263, 3), (54, .goto 4, 3), (57, .iconst (-1), 1), (58, .ireturn, 1)]
theorem tk_X1_cross : ∀ q ∈ tb_X1_cross, decode cX1_cross q.1 = .ok q.2 := by decide +kernel
theorem dc_X1_cross (k : Nat) {pc n : Nat} {i : Instr} (h : tb_X1_cross[k]? = some (pc, i, n)) : decode cX1_cross pc = .ok (i, n) := tk_X1_cross (pc, i, n) (List.mem_of_getElem? h)
abbrev mX1_cross : e_M := (yX1_cross, cX1_cross, 4, some (.int), [])
theorem ok_X1_cross : e_mok mX1_cross 3 := ⟨q883, q108, by decide +kernel, fun sig h => by cases h; rfl⟩
def f_X1_cross (F : Nat) (h : e_H) (a0 : Nat) (a1 : Int32) (a2 : Int32) (a3 : Int32) : Option Int32 :=
  Option.bind (e_is h a0 0) (fun _ =>
  Option.bind (f_X1_isBand h a0 a1) (fun x2 =>
  if x2 = 0 then
    some (-1)
  else
    Option.bind (f_X1_isBand h a0 a2) (fun x10 =>
    if x10 = 0 then
      some (-1)
    else
      if a1 = a2 then
        some (-1)
      else
        Option.bind (f_X1_isIn a3 0 1) (fun x24 =>
        if x24 = 0 then
          some (-1)
        else
          Option.bind (e_fA h a0 0 6) (fun x31 =>
          Option.bind (e_fA h x31 2 0) (fun x34 =>
          Option.bind (e_aA h x34 4 a1) (fun x38 =>
          Option.bind (e_fA h a0 0 6) (fun x40 =>
          Option.bind (e_fA h x40 2 0) (fun x43 =>
          Option.bind (e_aA h x43 4 a2) (fun x47 =>
          Option.bind (e_is h x38 6) (fun _ =>
          Option.bind (f_X8_meetings F h x38 x47 (1 + a3)) (fun x51 =>
          some x51))))))))))))
set_option maxHeartbeats 4000000 in
set_option maxRecDepth 100000 in
theorem ct_X1_cross {l : Launch} {D : e_D} {B : Heap} {F : Nat} {d : Nat} {h : e_H} {a0 : Nat} {a1 : Int32} {a2 : Int32} {a3 : Int32} {v : Int32} (hd : 6 ≤ d) (e : f_X1_cross F h a0 a1 a2 a3 = some v) : e_Run l D B d mX1_cross [.ref a0, .int a1, .int a2, .int a3] h (.ok (some (.int v)), h) := by
  refine e_start [some (.ref a0), some (.int a1), some (.int a2), some (.int a3)] (by decide) rfl rfl rfl (Nat.le_of_ble_eq_true rfl) (fun K hl0 hD0 hB0 hM hd0 hr => ?_)
  subst hl0 hD0 hB0 hd0
  have ho : (k_M K).1.cls = "PegBands" := by rw [hM]; rfl
  have hT : (k_M K).2.2.2.1 = some (.int) := by rw [hM]
  refine (show Sx K cX1_cross 0 [some (.ref a0), some (.int a1), some (.int a2), some (.int a3)] [] h (f_X1_cross F h a0 a1 a2 a3) (fun w => w = v) from ?_) _ e rfl
  clear e
  unfold f_X1_cross
  refine S_aload_n (dc_X1_cross 0 rfl) rfl ?_
  refine S_iload_n (dc_X1_cross 1 rfl) rfl ?_
  refine Sx.ask (fun _ i2 => ?_)
  refine S_roI (d := k_d K - 1) (e_callV (b := a0) (As := [.int a1]) (rest := []) ok_X1_isBand rfl (Nat.le_of_ble_eq_true rfl) (dc_X1_cross 2 rfl) ho q859 q861 (show e_cl[0]? = some (RX1, TX1, 37) from rfl) (e_sel.of qs7) (e_is_of i2) rfl (Nat.le_of_ble_eq_true rfl)) (by omega) (fun _ e => ct_X1_isBand (by omega) e) (fun x2 e2 => ?_)
  refine S_if_eq 57 (dc_X1_cross 3 rfl) rfl (fun c5 => ?_) (fun c5 => ?_)
  · refine S_iconst_ (-1) (dc_X1_cross 31 rfl) rfl ?_
    exact S_iret (dc_X1_cross 32 rfl) hT rfl (fun q => by cases q; exact hr)
  · refine S_aload_n (dc_X1_cross 4 rfl) rfl ?_
    refine S_iload_n (dc_X1_cross 5 rfl) rfl ?_
    refine S_roI (d := k_d K - 1) (e_callV (b := a0) (As := [.int a2]) (rest := []) ok_X1_isBand rfl (Nat.le_of_ble_eq_true rfl) (dc_X1_cross 6 rfl) ho q859 q861 (show e_cl[0]? = some (RX1, TX1, 37) from rfl) (e_sel.of qs7) (e_is_of i2) rfl (Nat.le_of_ble_eq_true rfl)) (by omega) (fun _ e => ct_X1_isBand (by omega) e) (fun x10 e10 => ?_)
    refine S_if_eq 57 (dc_X1_cross 7 rfl) rfl (fun c13 => ?_) (fun c13 => ?_)
    · refine S_iconst_ (-1) (dc_X1_cross 31 rfl) rfl ?_
      exact S_iret (dc_X1_cross 32 rfl) hT rfl (fun q => by cases q; exact hr)
    · refine S_iload_n (dc_X1_cross 8 rfl) rfl ?_
      refine S_iload_n (dc_X1_cross 9 rfl) rfl ?_
      refine S_icmp_eq 57 (dc_X1_cross 10 rfl) rfl (fun c18 => ?_) (fun c18 => ?_)
      · refine S_iconst_ (-1) (dc_X1_cross 31 rfl) rfl ?_
        exact S_iret (dc_X1_cross 32 rfl) hT rfl (fun q => by cases q; exact hr)
      · refine S_iload_n (dc_X1_cross 11 rfl) rfl ?_
        refine S_iconst_ 0 (dc_X1_cross 12 rfl) rfl ?_
        refine S_iconst_ 1 (dc_X1_cross 13 rfl) rfl ?_
        refine S_roI (d := k_d K - 1) (e_callS (As := [.int a3, .int 0, .int 1]) (rest := []) ok_X1_isIn rfl (Nat.le_of_ble_eq_true rfl) (dc_X1_cross 14 rfl) ho q825 q616 rfl (Nat.le_of_ble_eq_true rfl)) (by omega) (fun _ e => ct_X1_isIn (by omega) e) (fun x24 e24 => ?_)
        refine S_if_eq 57 (dc_X1_cross 15 rfl) rfl (fun c27 => ?_) (fun c27 => ?_)
        · refine S_iconst_ (-1) (dc_X1_cross 31 rfl) rfl ?_
          exact S_iret (dc_X1_cross 32 rfl) hT rfl (fun q => by cases q; exact hr)
        · refine S_aload_n (dc_X1_cross 16 rfl) rfl ?_
          refine S_getA (dc_X1_cross 17 rfl) ho fl_X1_63_0_6 (fun _ _ => rfl) (fun x31 e31 => ?_)
          refine S_getA (dc_X1_cross 18 rfl) ho fl_X1_248_2_0 (fun _ _ => rfl) (fun x34 e34 => ?_)
          refine S_iload_n (dc_X1_cross 19 rfl) rfl ?_
          refine S_aaldA4 (dc_X1_cross 20 rfl) (fun x38 e38 => ?_)
          refine S_aload_n (dc_X1_cross 21 rfl) rfl ?_
          refine S_getA (dc_X1_cross 22 rfl) ho fl_X1_63_0_6 (fun _ _ => rfl) (fun x40 e40 => ?_)
          refine S_getA (dc_X1_cross 23 rfl) ho fl_X1_248_2_0 (fun _ _ => rfl) (fun x43 e43 => ?_)
          refine S_iload_n (dc_X1_cross 24 rfl) rfl ?_
          refine S_aaldA4 (dc_X1_cross 25 rfl) (fun x47 e47 => ?_)
          refine S_iconst_ 1 (dc_X1_cross 26 rfl) rfl ?_
          refine S_iload_n (dc_X1_cross 27 rfl) rfl ?_
          refine S_iadd (dc_X1_cross 28 rfl) ?_
          refine Sx.ask (fun _ i51 => ?_)
          refine S_roI (d := k_d K - 1) (e_callV (b := x38) (As := [.ref x47, .int (1 + a3)]) (rest := []) ok_X8_meetings rfl (Nat.le_of_ble_eq_true rfl) (dc_X1_cross 29 rfl) ho q884 q831 (show e_cl[6]? = some (RX8, TX8, 4) from rfl) (e_sel.of q832) (e_is_of i51) rfl (Nat.le_of_ble_eq_true rfl)) (by omega) (fun _ e => ct_X8_meetings (by omega) e) (fun x51 e51 => ?_)
          refine S_goto 58 (dc_X1_cross 30 rfl) rfl ?_
          exact S_iret (dc_X1_cross 32 rfl) hT rfl (fun q => by cases q; exact hr)
abbrev cX1_in : ByteArray := prog_1_method_25_code
def yX1_in : MethodName := ⟨"PegBands", "in", "(II)I"⟩
def tb_X1_in : List (Nat × Instr × Nat) := [(0, .aload_n 0, 1), (1, .iload_n 1, 1), (2, .invokevirtual 241, 3), (5, .ifCond .eq 11, 3), (8, .aload_n 0, 1), (9, .iload_n 2, 1), (10, .invokevirtual 241, 3), (13, .ifCond .ne 7, 3), (16, .iconst (-1), 1), (17, .goto 37, 3), (20, .iload_n 1, 1), (21, .iload_n 2, 1), (22, .if_icmp .eq 31, 3), (25, .aload_n 0, 1), (26, .getfield 63, 3), (29, .getfield 248, 3), (32, .iload_n 1, 1), (33, .aaload, 1), (34, .aload_n 0, 1), (35, .getfield 63, 3), (38, .getfield 248, 3), (41, .iload_n 2, 1), (42, .aaload, 1), (43, .invokevirtual 281, 3), (46, .ifCond .eq 7, 3), (49, .iconst 1, 1), (50, .goto 4, 3), (53, .iconst 0, 1), (54, .ireturn, 1)]
theorem tk_X1_in : ∀ q ∈ tb_X1_in, decode cX1_in q.1 = .ok q.2 := by decide +kernel
theorem dc_X1_in (k : Nat) {pc n : Nat} {i : Instr} (h : tb_X1_in[k]? = some (pc, i, n)) : decode cX1_in pc = .ok (i, n) := tk_X1_in (pc, i, n) (List.mem_of_getElem? h)
abbrev mX1_in : e_M := (yX1_in, cX1_in, 3, some (.int), [])
theorem ok_X1_in : e_mok mX1_in 2 := ⟨q888, q108, by decide +kernel, fun sig h => by cases h; rfl⟩
def f_X1_in (F : Nat) (h : e_H) (a0 : Nat) (a1 : Int32) (a2 : Int32) : Option Int32 :=
  Option.bind (e_is h a0 0) (fun _ =>
  Option.bind (f_X1_isBand h a0 a1) (fun x2 =>
  if x2 = 0 then
    some (-1)
  else
    Option.bind (f_X1_isBand h a0 a2) (fun x10 =>
    if x10 = 0 then
      some (-1)
    else
      if a1 = a2 then
        some 0
      else
        Option.bind (e_fA h a0 0 6) (fun x26 =>
        Option.bind (e_fA h x26 2 0) (fun x29 =>
        Option.bind (e_aA h x29 4 a1) (fun x33 =>
        Option.bind (e_fA h a0 0 6) (fun x35 =>
        Option.bind (e_fA h x35 2 0) (fun x38 =>
        Option.bind (e_aA h x38 4 a2) (fun x42 =>
        Option.bind (e_is h x33 6) (fun _ =>
        Option.bind (f_X8_isInside F h x33 x42) (fun x43 =>
        if x43 = 0 then
          some 0
        else
          some 1)))))))))))
set_option maxHeartbeats 4000000 in
set_option maxRecDepth 100000 in
theorem ct_X1_in {l : Launch} {D : e_D} {B : Heap} {F : Nat} {d : Nat} {h : e_H} {a0 : Nat} {a1 : Int32} {a2 : Int32} {v : Int32} (hd : 8 ≤ d) (e : f_X1_in F h a0 a1 a2 = some v) : e_Run l D B d mX1_in [.ref a0, .int a1, .int a2] h (.ok (some (.int v)), h) := by
  refine e_start [some (.ref a0), some (.int a1), some (.int a2)] (by decide) rfl rfl rfl (Nat.le_of_ble_eq_true rfl) (fun K hl0 hD0 hB0 hM hd0 hr => ?_)
  subst hl0 hD0 hB0 hd0
  have ho : (k_M K).1.cls = "PegBands" := by rw [hM]; rfl
  have hT : (k_M K).2.2.2.1 = some (.int) := by rw [hM]
  refine (show Sx K cX1_in 0 [some (.ref a0), some (.int a1), some (.int a2)] [] h (f_X1_in F h a0 a1 a2) (fun w => w = v) from ?_) _ e rfl
  clear e
  unfold f_X1_in
  refine S_aload_n (dc_X1_in 0 rfl) rfl ?_
  refine S_iload_n (dc_X1_in 1 rfl) rfl ?_
  refine Sx.ask (fun _ i2 => ?_)
  refine S_roI (d := k_d K - 1) (e_callV (b := a0) (As := [.int a1]) (rest := []) ok_X1_isBand rfl (Nat.le_of_ble_eq_true rfl) (dc_X1_in 2 rfl) ho q859 q861 (show e_cl[0]? = some (RX1, TX1, 37) from rfl) (e_sel.of qs7) (e_is_of i2) rfl (Nat.le_of_ble_eq_true rfl)) (by omega) (fun _ e => ct_X1_isBand (by omega) e) (fun x2 e2 => ?_)
  refine S_if_eq 16 (dc_X1_in 3 rfl) rfl (fun c5 => ?_) (fun c5 => ?_)
  · refine S_iconst_ (-1) (dc_X1_in 8 rfl) rfl ?_
    refine S_goto 54 (dc_X1_in 9 rfl) rfl ?_
    exact S_iret (dc_X1_in 28 rfl) hT rfl (fun q => by cases q; exact hr)
  · refine S_aload_n (dc_X1_in 4 rfl) rfl ?_
    refine S_iload_n (dc_X1_in 5 rfl) rfl ?_
    refine S_roI (d := k_d K - 1) (e_callV (b := a0) (As := [.int a2]) (rest := []) ok_X1_isBand rfl (Nat.le_of_ble_eq_true rfl) (dc_X1_in 6 rfl) ho q859 q861 (show e_cl[0]? = some (RX1, TX1, 37) from rfl) (e_sel.of qs7) (e_is_of i2) rfl (Nat.le_of_ble_eq_true rfl)) (by omega) (fun _ e => ct_X1_isBand (by omega) e) (fun x10 e10 => ?_)
    refine S_if_ne 20 (dc_X1_in 7 rfl) rfl (fun c13 => ?_) (fun c13 => ?_)
    · refine S_iload_n (dc_X1_in 10 rfl) rfl ?_
      refine S_iload_n (dc_X1_in 11 rfl) rfl ?_
      refine S_icmp_eq 53 (dc_X1_in 12 rfl) rfl (fun c22 => ?_) (fun c22 => ?_)
      · refine S_iconst_ 0 (dc_X1_in 27 rfl) rfl ?_
        exact S_iret (dc_X1_in 28 rfl) hT rfl (fun q => by cases q; exact hr)
      · refine S_aload_n (dc_X1_in 13 rfl) rfl ?_
        refine S_getA (dc_X1_in 14 rfl) ho fl_X1_63_0_6 (fun _ _ => rfl) (fun x26 e26 => ?_)
        refine S_getA (dc_X1_in 15 rfl) ho fl_X1_248_2_0 (fun _ _ => rfl) (fun x29 e29 => ?_)
        refine S_iload_n (dc_X1_in 16 rfl) rfl ?_
        refine S_aaldA4 (dc_X1_in 17 rfl) (fun x33 e33 => ?_)
        refine S_aload_n (dc_X1_in 18 rfl) rfl ?_
        refine S_getA (dc_X1_in 19 rfl) ho fl_X1_63_0_6 (fun _ _ => rfl) (fun x35 e35 => ?_)
        refine S_getA (dc_X1_in 20 rfl) ho fl_X1_248_2_0 (fun _ _ => rfl) (fun x38 e38 => ?_)
        refine S_iload_n (dc_X1_in 21 rfl) rfl ?_
        refine S_aaldA4 (dc_X1_in 22 rfl) (fun x42 e42 => ?_)
        refine Sx.ask (fun _ i43 => ?_)
        refine S_roI (d := k_d K - 1) (e_callV (b := x33) (As := [.ref x42]) (rest := []) ok_X8_isInside rfl (Nat.le_of_ble_eq_true rfl) (dc_X1_in 23 rfl) ho q889 q890 (show e_cl[6]? = some (RX8, TX8, 4) from rfl) (e_sel.of q891) (e_is_of i43) rfl (Nat.le_of_ble_eq_true rfl)) (by omega) (fun _ e => ct_X8_isInside (by omega) e) (fun x43 e43 => ?_)
        refine S_if_eq 53 (dc_X1_in 24 rfl) rfl (fun c46 => ?_) (fun c46 => ?_)
        · refine S_iconst_ 0 (dc_X1_in 27 rfl) rfl ?_
          exact S_iret (dc_X1_in 28 rfl) hT rfl (fun q => by cases q; exact hr)
        · refine S_iconst_ 1 (dc_X1_in 25 rfl) rfl ?_
          refine S_goto 54 (dc_X1_in 26 rfl) rfl ?_
          exact S_iret (dc_X1_in 28 rfl) hT rfl (fun q => by cases q; exact hr)
    · refine S_iconst_ (-1) (dc_X1_in 8 rfl) rfl ?_
      refine S_goto 54 (dc_X1_in 9 rfl) rfl ?_
      exact S_iret (dc_X1_in 28 rfl) hT rfl (fun q => by cases q; exact hr)
abbrev cX1_alike : ByteArray := prog_1_method_31_code
def yX1_alike : MethodName := ⟨"PegBands", "alike", "(III)I"⟩
def tb_X1_alike : List (Nat × Instr × Nat) := [(0, .aload_n 0, 1), (1, .iload_n 1, 1), (2, .invokevirtual 241, 3), (5, .ifCond .eq 20, 3), (8, .aload_n 0, 1), (9, .iload_n 2, 1), (10, .invokevirtual 241, 3), (13, .ifCond .eq 12, 3), (16, .iload_n 3, 1), (17, .iconst 0, 1), (18, .iconst 2, 1), (19, .invokestatic 187, 3), (22, .ifCond .ne 7, 3), (25, .iconst (-1), 1), (26, .goto 34, 3), (29, .aload_n 0, 1), (30, .aload_n 0, 1), (31, .getfield 63, 3), (34, .getfield 248, 3), (37, .iload_n 1, 1), (38, .aaload, 1), (39, .aload_n 0, 1), (40, .getfield 63, 3), (43, .getfield 248, 3), (46, .iload_n 2, 1), (47, .aaload, 1), (48, .iload_n 3, 1), (49, .invokevirtual 307, 3), (52, .ifCond .eq 7, 3), (55, .iconst 1, 1), (56, .goto 4, 3), (59, .iconst 0, 1), (60, .ireturn, 1)]
theorem tk_X1_alike : ∀ q ∈ tb_X1_alike, decode cX1_alike q.1 = .ok q.2 := by decide +kernel
theorem dc_X1_alike (k : Nat) {pc n : Nat} {i : Instr} (h : tb_X1_alike[k]? = some (pc, i, n)) : decode cX1_alike pc = .ok (i, n) := tk_X1_alike (pc, i, n) (List.mem_of_getElem? h)
abbrev mX1_alike : e_M := (yX1_alike, cX1_alike, 4, some (.int), [])
theorem ok_X1_alike : e_mok mX1_alike 3 := ⟨q898, q108, by decide +kernel, fun sig h => by cases h; rfl⟩
def f_X1_alike (F : Nat) (h : e_H) (a0 : Nat) (a1 : Int32) (a2 : Int32) (a3 : Int32) : Option (Int32 × e_H) :=
  Option.bind (e_is h a0 0) (fun _ =>
  Option.bind (f_X1_isBand h a0 a1) (fun x2 =>
  if x2 = 0 then
    some ((-1), h)
  else
    Option.bind (f_X1_isBand h a0 a2) (fun x10 =>
    if x10 = 0 then
      some ((-1), h)
    else
      Option.bind (f_X1_isIn a3 0 2) (fun x19 =>
      if x19 = 0 then
        some ((-1), h)
      else
        Option.bind (e_fA h a0 0 6) (fun x31 =>
        Option.bind (e_fA h x31 2 0) (fun x34 =>
        Option.bind (e_aA h x34 4 a1) (fun x38 =>
        Option.bind (e_fA h a0 0 6) (fun x40 =>
        Option.bind (e_fA h x40 2 0) (fun x43 =>
        Option.bind (e_aA h x43 4 a2) (fun x47 =>
        e_b2 (f_X1_areAlike F h a0 x38 x47 a3) (fun x49 h49 =>
        if x49 = 0 then
          some (0, h49)
        else
          some (1, h49))))))))))))
set_option maxHeartbeats 4000000 in
set_option maxRecDepth 100000 in
theorem ct_X1_alike {l : Launch} {D : e_D} {B : Heap} {F : Nat} {d : Nat} {h : e_H} {a0 : Nat} {a1 : Int32} {a2 : Int32} {a3 : Int32} {v : Int32} {h1 : e_H} (hd : 4 ≤ d) (e : f_X1_alike F h a0 a1 a2 a3 = some (v, h1)) : e_Run l D B d mX1_alike [.ref a0, .int a1, .int a2, .int a3] h (.ok (some (.int v)), h1) := by
  refine e_start [some (.ref a0), some (.int a1), some (.int a2), some (.int a3)] (by decide) rfl rfl rfl (Nat.le_of_ble_eq_true rfl) (fun K hl0 hD0 hB0 hM hd0 hr => ?_)
  subst hl0 hD0 hB0 hd0
  have ho : (k_M K).1.cls = "PegBands" := by rw [hM]; rfl
  have hT : (k_M K).2.2.2.1 = some (.int) := by rw [hM]
  refine (show Sx K cX1_alike 0 [some (.ref a0), some (.int a1), some (.int a2), some (.int a3)] [] h (f_X1_alike F h a0 a1 a2 a3) (fun w => w = (v, h1)) from ?_) _ e rfl
  clear e
  unfold f_X1_alike
  refine S_aload_n (dc_X1_alike 0 rfl) rfl ?_
  refine S_iload_n (dc_X1_alike 1 rfl) rfl ?_
  refine Sx.ask (fun _ i2 => ?_)
  refine S_roI (d := k_d K - 1) (e_callV (b := a0) (As := [.int a1]) (rest := []) ok_X1_isBand rfl (Nat.le_of_ble_eq_true rfl) (dc_X1_alike 2 rfl) ho q859 q861 (show e_cl[0]? = some (RX1, TX1, 37) from rfl) (e_sel.of qs7) (e_is_of i2) rfl (Nat.le_of_ble_eq_true rfl)) (by omega) (fun _ e => ct_X1_isBand (by omega) e) (fun x2 e2 => ?_)
  refine S_if_eq 25 (dc_X1_alike 3 rfl) rfl (fun c5 => ?_) (fun c5 => ?_)
  · refine S_iconst_ (-1) (dc_X1_alike 13 rfl) rfl ?_
    refine S_goto 60 (dc_X1_alike 14 rfl) rfl ?_
    exact S_iret (dc_X1_alike 32 rfl) hT rfl (e_rqI hr)
  · refine S_aload_n (dc_X1_alike 4 rfl) rfl ?_
    refine S_iload_n (dc_X1_alike 5 rfl) rfl ?_
    refine S_roI (d := k_d K - 1) (e_callV (b := a0) (As := [.int a2]) (rest := []) ok_X1_isBand rfl (Nat.le_of_ble_eq_true rfl) (dc_X1_alike 6 rfl) ho q859 q861 (show e_cl[0]? = some (RX1, TX1, 37) from rfl) (e_sel.of qs7) (e_is_of i2) rfl (Nat.le_of_ble_eq_true rfl)) (by omega) (fun _ e => ct_X1_isBand (by omega) e) (fun x10 e10 => ?_)
    refine S_if_eq 25 (dc_X1_alike 7 rfl) rfl (fun c13 => ?_) (fun c13 => ?_)
    · refine S_iconst_ (-1) (dc_X1_alike 13 rfl) rfl ?_
      refine S_goto 60 (dc_X1_alike 14 rfl) rfl ?_
      exact S_iret (dc_X1_alike 32 rfl) hT rfl (e_rqI hr)
    · refine S_iload_n (dc_X1_alike 8 rfl) rfl ?_
      refine S_iconst_ 0 (dc_X1_alike 9 rfl) rfl ?_
      refine S_iconst_ 2 (dc_X1_alike 10 rfl) rfl ?_
      refine S_roI (d := k_d K - 1) (e_callS (As := [.int a3, .int 0, .int 2]) (rest := []) ok_X1_isIn rfl (Nat.le_of_ble_eq_true rfl) (dc_X1_alike 11 rfl) ho q825 q616 rfl (Nat.le_of_ble_eq_true rfl)) (by omega) (fun _ e => ct_X1_isIn (by omega) e) (fun x19 e19 => ?_)
      refine S_if_ne 29 (dc_X1_alike 12 rfl) rfl (fun c22 => ?_) (fun c22 => ?_)
      · refine S_aload_n (dc_X1_alike 15 rfl) rfl ?_
        refine S_aload_n (dc_X1_alike 16 rfl) rfl ?_
        refine S_getA (dc_X1_alike 17 rfl) ho fl_X1_63_0_6 (fun _ _ => rfl) (fun x31 e31 => ?_)
        refine S_getA (dc_X1_alike 18 rfl) ho fl_X1_248_2_0 (fun _ _ => rfl) (fun x34 e34 => ?_)
        refine S_iload_n (dc_X1_alike 19 rfl) rfl ?_
        refine S_aaldA4 (dc_X1_alike 20 rfl) (fun x38 e38 => ?_)
        refine S_aload_n (dc_X1_alike 21 rfl) rfl ?_
        refine S_getA (dc_X1_alike 22 rfl) ho fl_X1_63_0_6 (fun _ _ => rfl) (fun x40 e40 => ?_)
        refine S_getA (dc_X1_alike 23 rfl) ho fl_X1_248_2_0 (fun _ _ => rfl) (fun x43 e43 => ?_)
        refine S_iload_n (dc_X1_alike 24 rfl) rfl ?_
        refine S_aaldA4 (dc_X1_alike 25 rfl) (fun x47 e47 => ?_)
        refine S_iload_n (dc_X1_alike 26 rfl) rfl ?_
        refine S_rwI (d := k_d K - 1) (e_callV (b := a0) (As := [.ref x38, .ref x47, .int a3]) (rest := []) ok_X1_areAlike rfl (Nat.le_of_ble_eq_true rfl) (dc_X1_alike 27 rfl) ho q899 q901 (show e_cl[0]? = some (RX1, TX1, 37) from rfl) (e_sel.of qs8) (e_is_of i2) rfl (Nat.le_of_ble_eq_true rfl)) (by omega) (fun _ _ e => ct_X1_areAlike (by omega) e) (fun x49 h49 e49 => ?_)
        refine S_if_eq 59 (dc_X1_alike 28 rfl) rfl (fun c52 => ?_) (fun c52 => ?_)
        · refine S_iconst_ 0 (dc_X1_alike 31 rfl) rfl ?_
          exact S_iret (dc_X1_alike 32 rfl) hT rfl (e_rqI hr)
        · refine S_iconst_ 1 (dc_X1_alike 29 rfl) rfl ?_
          refine S_goto 60 (dc_X1_alike 30 rfl) rfl ?_
          exact S_iret (dc_X1_alike 32 rfl) hT rfl (e_rqI hr)
      · refine S_iconst_ (-1) (dc_X1_alike 13 rfl) rfl ?_
        refine S_goto 60 (dc_X1_alike 14 rfl) rfl ?_
        exact S_iret (dc_X1_alike 32 rfl) hT rfl (e_rqI hr)
abbrev cX1_turned : ByteArray := prog_1_method_32_code
def yX1_turned : MethodName := ⟨"PegBands", "turned", "(LPegBands$Band;I)LPegBands$Band;"⟩
def tb_X1_turned : List (Nat × Instr × Nat) := [(0, .new 114, 3), (3, .dup, 1), (4, .invokespecial 116, 3), (7, .astore_n 2, 1), (8, .iconst 0, 1), (9, .istore_n 3, 1), (10, .iload_n 3, 1), (11, .aload_n 0, 1), (12, .getfield 251, 3), (15, .if_icmp .ge 45, 3), (18, .aload_n 2, 1), (19, .iload_n 1, 1), (20, .aload_n 0, 1), (21, .getfield 273, 3), (24, .iload_n 3, 1), (25, .iaload, 1), (26, .aload_n 0, 1), (27, .getfield 270, 3), (30, .iload_n 3, 1), (31, .iaload, 1), (32, .invokestatic 286, 3), (35, .iload_n 1, 1), (36, .aload_n 0, 1), (37, .getfield 273, 3), (40, .iload_n 3, 1), (41, .iaload, 1), (42, .aload_n 0, 1), (43, .getfield 270, 3), (46, .iload_n 3, 1), (47, .iaload, 1), (48, .invokestatic 290, 3), (51, .invokevirtual 311, 3), (54, .iinc 3 1, 3), (57, .goto (-47), 3), (60, .aload_n 2, 1), (61, .areturn, 1)]
theorem tk_X1_turned : ∀ q ∈ tb_X1_turned, decode cX1_turned q.1 = .ok q.2 := by decide +kernel
theorem dc_X1_turned (k : Nat) {pc n : Nat} {i : Instr} (h : tb_X1_turned[k]? = some (pc, i, n)) : decode cX1_turned pc = .ok (i, n) := tk_X1_turned (pc, i, n) (List.mem_of_getElem? h)
abbrev mX1_turned : e_M := (yX1_turned, cX1_turned, 4, some (.object "PegBands$Band"), [])
theorem ok_X1_turned : e_mok mX1_turned 2 := ⟨q926, q108, by decide +kernel, fun sig h => by cases h; rfl⟩
def lp_X1_turned_10 (F : Nat) (a0 : Nat) (a1 : Int32) (x0 : Nat) : Nat → Int32 → e_H → Option (e_H)
  | 0, _, _ => none
  | n + 1, x3_10, h_10 =>
    Option.bind (e_fI h_10 a0 6 2) (fun x12 =>
    if x12 ≤ x3_10 then
      some h_10
    else
      Option.bind (e_fA h_10 a0 6 0) (fun x21 =>
      Option.bind (e_aI h_10 x21 0 x3_10) (fun x25 =>
      Option.bind (e_fA h_10 a0 6 1) (fun x27 =>
      Option.bind (e_aI h_10 x27 0 x3_10) (fun x31 =>
      Option.bind (f_X1_turnedX a1 x25 x31) (fun x32 =>
      Option.bind (e_fA h_10 a0 6 0) (fun x37 =>
      Option.bind (e_aI h_10 x37 0 x3_10) (fun x41 =>
      Option.bind (e_fA h_10 a0 6 1) (fun x43 =>
      Option.bind (e_aI h_10 x43 0 x3_10) (fun x47 =>
      Option.bind (f_X1_turnedY a1 x41 x47) (fun x48 =>
      Option.bind (e_is h_10 x0 6) (fun _ =>
      Option.bind (f_X8_add h_10 x0 x32 x48) (fun h51 =>
      Option.bind (some (x3_10 + 1)) (fun x54 =>
      lp_X1_turned_10 F a0 a1 x0 n x54 h51))))))))))))))
def f_X1_turned (F : Nat) (h : e_H) (a0 : Nat) (a1 : Int32) : Option (Nat × e_H) :=
  e_mkb h (.inl 6) 4 (fun x0 h0 =>
  Option.bind (f_X8_init h0 x0) (fun h4 =>
  Option.bind (
      lp_X1_turned_10 F a0 a1 x0 F 0 h4
    : Option (e_H)) (fun h60_1 =>
  some (x0, h60_1))))
set_option maxHeartbeats 4000000 in
set_option maxRecDepth 100000 in
theorem ct_X1_turned {l : Launch} {D : e_D} {B : Heap} {F : Nat} {d : Nat} {h : e_H} {a0 : Nat} {a1 : Int32} {v : Nat} {h1 : e_H} (hd : 2 ≤ d) (e : f_X1_turned F h a0 a1 = some (v, h1)) : e_Run l D B d mX1_turned [.ref a0, .int a1] h (.ok (some (.ref v)), h1) := by
  refine e_start [some (.ref a0), some (.int a1), none, none] (by decide) rfl rfl rfl (Nat.le_of_ble_eq_true rfl) (fun K hl0 hD0 hB0 hM hd0 hr => ?_)
  subst hl0 hD0 hB0 hd0
  have ho : (k_M K).1.cls = "PegBands" := by rw [hM]; rfl
  have hT : (k_M K).2.2.2.1 = some (.object "PegBands$Band") := by rw [hM]
  refine (show Sx K cX1_turned 0 [some (.ref a0), some (.int a1), none, none] [] h (f_X1_turned F h a0 a1) (fun w => w = (v, h1)) from ?_) _ e rfl
  clear e
  unfold f_X1_turned
  refine S_newB (dc_X1_turned 0 rfl) ho (show e_cl[6]? = some (RX8, TX8, 4) from rfl) (by decide) q386 q387 q117 (fun x0 h0 u0 w0 => ?_)
  refine S_dup (dc_X1_turned 1 rfl) rfl ?_
  refine S_rwV (d := k_d K - 1) (e_callI (b := x0) (As := []) (rest := [.ref x0]) ok_X8_init rfl rfl rfl (Nat.le_of_ble_eq_true rfl) (dc_X1_turned 2 rfl) ho q388 q389 rfl (Nat.le_of_ble_eq_true rfl)) (by omega) (fun _ e => ct_X8_init (by omega) e) (fun h4 e4 => ?_)
  refine S_astore_n (L' := [some (.ref a0), some (.int a1), some (.ref x0), none]) (dc_X1_turned 3 rfl) rfl ?_
  refine S_iconst_ 0 (dc_X1_turned 4 rfl) rfl ?_
  refine S_istore_n (L' := [some (.ref a0), some (.int a1), some (.ref x0), some (.int 0)]) (dc_X1_turned 5 rfl) rfl ?_
  refine Sx.regK1 (pc2 := 60) (L2 := fun (h60_1 : e_H) => [none, none, some (.ref x0), none]) (st2 := fun (h60_1 : e_H) => []) (h2 := fun (h60_1 : e_H) => h60_1) ?_ (fun Q1 hK1 => ?_)
  · intro h60_1
    show Sx K cX1_turned 60 [none, none, some (.ref x0), none] [] h60_1 _ _
    refine S_aload_n (dc_X1_turned 34 rfl) rfl ?_
    exact S_aret (dc_X1_turned 35 rfl) hT (Or.inl ⟨_, rfl⟩) (fun q => by cases q; exact hr)
  · have hK1 : ∀ (h60_1 : e_H), Sx K cX1_turned 60 [none, none, some (.ref x0), none] [] h60_1 (some h60_1) Q1 := hK1
    have ih1 : ∀ (n : Nat) (x3_10 : Int32) (h_10 : e_H), Sx K cX1_turned 10 [some (.ref a0), some (.int a1), some (.ref x0), some (.int x3_10)] [] h_10 (lp_X1_turned_10 F a0 a1 x0 n x3_10 h_10) Q1 := by
      intro n
      induction n with
      | zero => intro x3_10 h_10; exact Sx.none
      | succ n ih1 =>
        intro x3_10 h_10
        rw [lp_X1_turned_10.eq_2]
        refine S_iload_n (dc_X1_turned 6 rfl) rfl ?_
        refine S_aload_n (dc_X1_turned 7 rfl) rfl ?_
        refine S_getI (dc_X1_turned 8 rfl) ho fl_X1_251_6_2 (fun _ _ => rfl) (fun x12 e12 => ?_)
        refine S_icmp_ge 60 (dc_X1_turned 9 rfl) rfl (fun c15 => ?_) (fun c15 => ?_)
        · refine Sx.cut [false, false, true, false] ?_
          exact hK1 h_10
        · refine S_aload_n (dc_X1_turned 10 rfl) rfl ?_
          refine S_iload_n (dc_X1_turned 11 rfl) rfl ?_
          refine S_aload_n (dc_X1_turned 12 rfl) rfl ?_
          refine S_getA (dc_X1_turned 13 rfl) ho fl_X1_273_6_0 (fun _ _ => rfl) (fun x21 e21 => ?_)
          refine S_iload_n (dc_X1_turned 14 rfl) rfl ?_
          refine S_iald (dc_X1_turned 15 rfl) (fun x25 e25 => ?_)
          refine S_aload_n (dc_X1_turned 16 rfl) rfl ?_
          refine S_getA (dc_X1_turned 17 rfl) ho fl_X1_270_6_1 (fun _ _ => rfl) (fun x27 e27 => ?_)
          refine S_iload_n (dc_X1_turned 18 rfl) rfl ?_
          refine S_iald (dc_X1_turned 19 rfl) (fun x31 e31 => ?_)
          refine S_roI (d := k_d K - 1) (e_callS (As := [.int a1, .int x25, .int x31]) (rest := [.ref x0]) ok_X1_turnedX rfl (Nat.le_of_ble_eq_true rfl) (dc_X1_turned 20 rfl) ho q908 q909 rfl (Nat.le_of_ble_eq_true rfl)) (by omega) (fun _ e => ct_X1_turnedX (by omega) e) (fun x32 e32 => ?_)
          refine S_iload_n (dc_X1_turned 21 rfl) rfl ?_
          refine S_aload_n (dc_X1_turned 22 rfl) rfl ?_
          refine S_getA (dc_X1_turned 23 rfl) ho fl_X1_273_6_0 (fun _ _ => rfl) (fun x37 e37 => ?_)
          refine S_iload_n (dc_X1_turned 24 rfl) rfl ?_
          refine S_iald (dc_X1_turned 25 rfl) (fun x41 e41 => ?_)
          refine S_aload_n (dc_X1_turned 26 rfl) rfl ?_
          refine S_getA (dc_X1_turned 27 rfl) ho fl_X1_270_6_1 (fun _ _ => rfl) (fun x43 e43 => ?_)
          refine S_iload_n (dc_X1_turned 28 rfl) rfl ?_
          refine S_iald (dc_X1_turned 29 rfl) (fun x47 e47 => ?_)
          refine S_roI (d := k_d K - 1) (e_callS (As := [.int a1, .int x41, .int x47]) (rest := [.int x32, .ref x0]) ok_X1_turnedY rfl (Nat.le_of_ble_eq_true rfl) (dc_X1_turned 30 rfl) ho q911 q912 rfl (Nat.le_of_ble_eq_true rfl)) (by omega) (fun _ e => ct_X1_turnedY (by omega) e) (fun x48 e48 => ?_)
          refine Sx.ask (fun _ i51 => ?_)
          refine S_rwV (d := k_d K - 1) (e_callV (b := x0) (As := [.int x32, .int x48]) (rest := []) ok_X8_add rfl (Nat.le_of_ble_eq_true rfl) (dc_X1_turned 31 rfl) ho q927 q770 (show e_cl[6]? = some (RX8, TX8, 4) from rfl) (e_sel.of q771) (e_is_of i51) rfl (Nat.le_of_ble_eq_true rfl)) (by omega) (fun _ e => ct_X8_add (by omega) e) (fun h51 e51 => ?_)
          refine S_iincN 1 (L' := fun x54 => [some (.ref a0), some (.int a1), some (.ref x0), some (.int x54)]) (dc_X1_turned 32 rfl) rfl rfl (fun _ => rfl) (fun x54 n54 => ?_)
          refine S_goto 10 (dc_X1_turned 33 rfl) rfl ?_
          exact ih1 x54 h51
    exact ih1 F 0 h4
abbrev cX1_even : ByteArray := prog_1_method_33_code
def yX1_even : MethodName := ⟨"PegBands", "even", "(II)I"⟩
def tb_X1_even : List (Nat × Instr × Nat) := [(0, .aload_n 0, 1), (1, .iload_n 1, 1), (2, .invokevirtual 241, 3), (5, .ifCond .eq 12, 3), (8, .iload_n 2, 1), (9, .iconst 0, 1), (10, .iconst 2, 1), (11, .invokestatic 187, 3), (14, .ifCond .ne 5, 3), (17, .iconst (-1), 1), (18, .ireturn, 1), (19, .aload_n 0, 1), (20, .getfield 63, 3), (23, .getfield 248, 3), (26, .iload_n 1, 1), (27, .aaload, 1), (28, .astore_n 3, 1), (29, .iload_n 2, 1), (30, .iconst 2, 1), (31, .if_icmp .ge 25, 3), (34, .aload_n 0, 1), (35, .aload_n 3, 1), (36, .aload_n 3, 1), (37, .iconst 2, 1), (38, .iload_n 2, 1), (39, .isub, 1), (40, .invokestatic 315, 3), (43, .iconst 0, 1), (44, .invokevirtual 307, 3), (47, .ifCond .eq 7, 3), (50, .iconst 1, 1), (51, .goto 4, 3), (54, .iconst 0, 1), (55, .ireturn, 1), (56, .iconst 4, 1), (57, .istore 4, 2), (59, .iload 4, 2), (61, .bipush 8, 2), (63, .if_icmp .ge 26, 3), (66, .aload_n 0, 1), (67, .aload_n 3, 1), (68, .aload_n 3, 1), (69, .iload 4, 2), (71, .invokestatic 315, 3), (74, .iconst 0, 1), (75, .invokevirtual 307, 3), (78, .ifCond .eq 5, 3), (81, .iconst 1, 1), (82, .ireturn, 1), (83, .iinc 4 1, 3), (86, .goto (-27), 3), (89, .iconst 0, 1), (90, .ireturn, 1)]
theorem tk_X1_even : ∀ q ∈ tb_X1_even, decode cX1_even q.1 = .ok q.2 := by decide +kernel
theorem dc_X1_even (k : Nat) {pc n : Nat} {i : Instr} (h : tb_X1_even[k]? = some (pc, i, n)) : decode cX1_even pc = .ok (i, n) := tk_X1_even (pc, i, n) (List.mem_of_getElem? h)
abbrev mX1_even : e_M := (yX1_even, cX1_even, 5, some (.int), [])
theorem ok_X1_even : e_mok mX1_even 2 := ⟨q923, q108, by decide +kernel, fun sig h => by cases h; rfl⟩
def lp_X1_even_59 (F : Nat) (a0 : Nat) (x27 : Nat) : Nat → Int32 → e_H → Option (Except (Int32 × e_H) e_H)
  | 0, _, _ => none
  | n + 1, x4_59, h_59 =>
    if 8 ≤ x4_59 then
      some (.ok h_59)
    else
      e_b2 (f_X1_turned F h_59 x27 x4_59) (fun x71 h71 =>
      Option.bind (e_is h71 a0 0) (fun _ =>
      e_b2 (f_X1_areAlike F h71 a0 x27 x71 0) (fun x75 h75 =>
      if x75 = 0 then
        Option.bind (some (x4_59 + 1)) (fun x83 =>
        lp_X1_even_59 F a0 x27 n x83 h75)
      else
        some (.error (1, h75)))))
def f_X1_even (F : Nat) (h : e_H) (a0 : Nat) (a1 : Int32) (a2 : Int32) : Option (Int32 × e_H) :=
  Option.bind (e_is h a0 0) (fun _ =>
  Option.bind (f_X1_isBand h a0 a1) (fun x2 =>
  if x2 = 0 then
    some ((-1), h)
  else
    Option.bind (f_X1_isIn a2 0 2) (fun x11 =>
    if x11 = 0 then
      some ((-1), h)
    else
      Option.bind (e_fA h a0 0 6) (fun x20 =>
      Option.bind (e_fA h x20 2 0) (fun x23 =>
      Option.bind (e_aA h x23 4 a1) (fun x27 =>
      if 2 ≤ a2 then
        e_bE (
            lp_X1_even_59 F a0 x27 F 4 h
          : Option (Except (Int32 × e_H) e_H)) (fun h89_1 =>
        some (0, h89_1))
      else
        e_b2 (f_X1_turned F h x27 (2 - a2)) (fun x40 h40 =>
        Option.bind (e_is h40 a0 0) (fun _ =>
        e_b2 (f_X1_areAlike F h40 a0 x27 x40 0) (fun x44 h44 =>
        if x44 = 0 then
          some (0, h44)
        else
          some (1, h44))))))))))
set_option maxHeartbeats 4000000 in
set_option maxRecDepth 100000 in
theorem ct_X1_even {l : Launch} {D : e_D} {B : Heap} {F : Nat} {d : Nat} {h : e_H} {a0 : Nat} {a1 : Int32} {a2 : Int32} {v : Int32} {h1 : e_H} (hd : 4 ≤ d) (e : f_X1_even F h a0 a1 a2 = some (v, h1)) : e_Run l D B d mX1_even [.ref a0, .int a1, .int a2] h (.ok (some (.int v)), h1) := by
  refine e_start [some (.ref a0), some (.int a1), some (.int a2), none, none] (by decide) rfl rfl rfl (Nat.le_of_ble_eq_true rfl) (fun K hl0 hD0 hB0 hM hd0 hr => ?_)
  subst hl0 hD0 hB0 hd0
  have ho : (k_M K).1.cls = "PegBands" := by rw [hM]; rfl
  have hT : (k_M K).2.2.2.1 = some (.int) := by rw [hM]
  refine (show Sx K cX1_even 0 [some (.ref a0), some (.int a1), some (.int a2), none, none] [] h (f_X1_even F h a0 a1 a2) (fun w => w = (v, h1)) from ?_) _ e rfl
  clear e
  unfold f_X1_even
  refine S_aload_n (dc_X1_even 0 rfl) rfl ?_
  refine S_iload_n (dc_X1_even 1 rfl) rfl ?_
  refine Sx.ask (fun _ i2 => ?_)
  refine S_roI (d := k_d K - 1) (e_callV (b := a0) (As := [.int a1]) (rest := []) ok_X1_isBand rfl (Nat.le_of_ble_eq_true rfl) (dc_X1_even 2 rfl) ho q859 q861 (show e_cl[0]? = some (RX1, TX1, 37) from rfl) (e_sel.of qs7) (e_is_of i2) rfl (Nat.le_of_ble_eq_true rfl)) (by omega) (fun _ e => ct_X1_isBand (by omega) e) (fun x2 e2 => ?_)
  refine S_if_eq 17 (dc_X1_even 3 rfl) rfl (fun c5 => ?_) (fun c5 => ?_)
  · refine S_iconst_ (-1) (dc_X1_even 9 rfl) rfl ?_
    exact S_iret (dc_X1_even 10 rfl) hT rfl (e_rqI hr)
  · refine S_iload_n (dc_X1_even 4 rfl) rfl ?_
    refine S_iconst_ 0 (dc_X1_even 5 rfl) rfl ?_
    refine S_iconst_ 2 (dc_X1_even 6 rfl) rfl ?_
    refine S_roI (d := k_d K - 1) (e_callS (As := [.int a2, .int 0, .int 2]) (rest := []) ok_X1_isIn rfl (Nat.le_of_ble_eq_true rfl) (dc_X1_even 7 rfl) ho q825 q616 rfl (Nat.le_of_ble_eq_true rfl)) (by omega) (fun _ e => ct_X1_isIn (by omega) e) (fun x11 e11 => ?_)
    refine S_if_ne 19 (dc_X1_even 8 rfl) rfl (fun c14 => ?_) (fun c14 => ?_)
    · refine S_aload_n (dc_X1_even 11 rfl) rfl ?_
      refine S_getA (dc_X1_even 12 rfl) ho fl_X1_63_0_6 (fun _ _ => rfl) (fun x20 e20 => ?_)
      refine S_getA (dc_X1_even 13 rfl) ho fl_X1_248_2_0 (fun _ _ => rfl) (fun x23 e23 => ?_)
      refine S_iload_n (dc_X1_even 14 rfl) rfl ?_
      refine S_aaldA4 (dc_X1_even 15 rfl) (fun x27 e27 => ?_)
      refine S_astore_n (L' := [some (.ref a0), some (.int a1), some (.int a2), some (.ref x27), none]) (dc_X1_even 16 rfl) rfl ?_
      refine S_iload_n (dc_X1_even 17 rfl) rfl ?_
      refine S_iconst_ 2 (dc_X1_even 18 rfl) rfl ?_
      refine S_icmp_ge 56 (dc_X1_even 19 rfl) rfl (fun c31 => ?_) (fun c31 => ?_)
      · refine S_iconst_ 4 (dc_X1_even 34 rfl) rfl ?_
        refine S_istore (L' := [some (.ref a0), some (.int a1), some (.int a2), some (.ref x27), some (.int 4)]) (dc_X1_even 35 rfl) rfl ?_
        refine Sx.regKE1 (pc2 := 89) (L2 := fun (h89_1 : e_H) => [none, none, none, none, none]) (st2 := fun (h89_1 : e_H) => []) (h2 := fun (h89_1 : e_H) => h89_1) ?_ (fun Q1 hK1 hE1 => ?_)
        · intro h89_1
          show Sx K cX1_even 89 [none, none, none, none, none] [] h89_1 _ _
          refine S_iconst_ 0 (dc_X1_even 51 rfl) rfl ?_
          exact S_iret (dc_X1_even 52 rfl) hT rfl (e_rqI hr)
        · have hK1 : ∀ (h89_1 : e_H), Sx K cX1_even 89 [none, none, none, none, none] [] h89_1 (some (.ok h89_1)) Q1 := hK1
          have ih1 : ∀ (n : Nat) (x4_59 : Int32) (h_59 : e_H), Sx K cX1_even 59 [some (.ref a0), none, none, some (.ref x27), some (.int x4_59)] [] h_59 (lp_X1_even_59 F a0 x27 n x4_59 h_59) Q1 := by
            intro n
            induction n with
            | zero => intro x4_59 h_59; exact Sx.none
            | succ n ih1 =>
              intro x4_59 h_59
              rw [lp_X1_even_59.eq_2]
              refine S_iload (dc_X1_even 36 rfl) rfl ?_
              refine S_bipush_ 8 (dc_X1_even 37 rfl) rfl ?_
              refine S_icmp_ge 89 (dc_X1_even 38 rfl) rfl (fun c63 => ?_) (fun c63 => ?_)
              · refine Sx.cut [false, true, true, false, false] ?_
                exact hK1 h_59
              · refine S_aload_n (dc_X1_even 39 rfl) rfl ?_
                refine S_aload_n (dc_X1_even 40 rfl) rfl ?_
                refine S_aload_n (dc_X1_even 41 rfl) rfl ?_
                refine S_iload (dc_X1_even 42 rfl) rfl ?_
                refine S_rwA (d := k_d K - 1) (e_callS (As := [.ref x27, .int x4_59]) (rest := [.ref x27, .ref a0]) ok_X1_turned rfl (Nat.le_of_ble_eq_true rfl) (dc_X1_even 43 rfl) ho q924 q925 rfl (Nat.le_of_ble_eq_true rfl)) (by omega) (fun _ _ e => ct_X1_turned (by omega) e) (fun x71 h71 e71 => ?_)
                refine S_iconst_ 0 (dc_X1_even 44 rfl) rfl ?_
                refine Sx.ask (fun _ i75 => ?_)
                refine S_rwI (d := k_d K - 1) (e_callV (b := a0) (As := [.ref x27, .ref x71, .int 0]) (rest := []) ok_X1_areAlike rfl (Nat.le_of_ble_eq_true rfl) (dc_X1_even 45 rfl) ho q899 q901 (show e_cl[0]? = some (RX1, TX1, 37) from rfl) (e_sel.of qs8) (e_is_of i75) rfl (Nat.le_of_ble_eq_true rfl)) (by omega) (fun _ _ e => ct_X1_areAlike (by omega) e) (fun x75 h75 e75 => ?_)
                refine S_if_eq 83 (dc_X1_even 46 rfl) rfl (fun c78 => ?_) (fun c78 => ?_)
                · refine S_iincN 1 (L' := fun x83 => [some (.ref a0), none, none, some (.ref x27), some (.int x83)]) (dc_X1_even 49 rfl) rfl rfl (fun _ => rfl) (fun x83 n83 => ?_)
                  refine S_goto 59 (dc_X1_even 50 rfl) rfl ?_
                  exact ih1 x83 h75
                · refine S_iconst_ 1 (dc_X1_even 47 rfl) rfl ?_
                  refine Sx.err hE1 ?_
                  exact S_iret (dc_X1_even 48 rfl) hT rfl (e_rqI hr)
          refine Sx.cut [true, false, false, true, true] ?_
          exact ih1 F 4 h
      · refine S_aload_n (dc_X1_even 20 rfl) rfl ?_
        refine S_aload_n (dc_X1_even 21 rfl) rfl ?_
        refine S_aload_n (dc_X1_even 22 rfl) rfl ?_
        refine S_iconst_ 2 (dc_X1_even 23 rfl) rfl ?_
        refine S_iload_n (dc_X1_even 24 rfl) rfl ?_
        refine S_isub (dc_X1_even 25 rfl) ?_
        refine S_rwA (d := k_d K - 1) (e_callS (As := [.ref x27, .int (2 - a2)]) (rest := [.ref x27, .ref a0]) ok_X1_turned rfl (Nat.le_of_ble_eq_true rfl) (dc_X1_even 26 rfl) ho q924 q925 rfl (Nat.le_of_ble_eq_true rfl)) (by omega) (fun _ _ e => ct_X1_turned (by omega) e) (fun x40 h40 e40 => ?_)
        refine S_iconst_ 0 (dc_X1_even 27 rfl) rfl ?_
        refine Sx.ask (fun _ i44 => ?_)
        refine S_rwI (d := k_d K - 1) (e_callV (b := a0) (As := [.ref x27, .ref x40, .int 0]) (rest := []) ok_X1_areAlike rfl (Nat.le_of_ble_eq_true rfl) (dc_X1_even 28 rfl) ho q899 q901 (show e_cl[0]? = some (RX1, TX1, 37) from rfl) (e_sel.of qs8) (e_is_of i44) rfl (Nat.le_of_ble_eq_true rfl)) (by omega) (fun _ _ e => ct_X1_areAlike (by omega) e) (fun x44 h44 e44 => ?_)
        refine S_if_eq 54 (dc_X1_even 29 rfl) rfl (fun c47 => ?_) (fun c47 => ?_)
        · refine S_iconst_ 0 (dc_X1_even 32 rfl) rfl ?_
          exact S_iret (dc_X1_even 33 rfl) hT rfl (e_rqI hr)
        · refine S_iconst_ 1 (dc_X1_even 30 rfl) rfl ?_
          refine S_goto 55 (dc_X1_even 31 rfl) rfl ?_
          exact S_iret (dc_X1_even 33 rfl) hT rfl (e_rqI hr)
    · refine S_iconst_ (-1) (dc_X1_even 9 rfl) rfl ?_
      exact S_iret (dc_X1_even 10 rfl) hT rfl (e_rqI hr)
abbrev cX1_wide : ByteArray := prog_1_method_34_code
def yX1_wide : MethodName := ⟨"PegBands", "wide", "(I)I"⟩
def tb_X1_wide : List (Nat × Instr × Nat) := [(0, .aload_n 0, 1), (1, .iload_n 1, 1), (2, .invokevirtual 241, 3), (5, .ifCond .ne 5, 3), (8, .iconst (-1), 1), (9, .ireturn, 1), (10, .aload_n 0, 1), (11, .getfield 63, 3), (14, .getfield 248, 3), (17, .iload_n 1, 1), (18, .aaload, 1), (19, .astore_n 2, 1), (20, .iconst 0, 1), (21, .istore_n 3, 1), (22, .iconst 0, 1), (23, .istore 4, 2), (25, .iload 4, 2), (27, .aload_n 2, 1), (28, .getfield 251, 3), (31, .if_icmp .ge 75, 3), (34, .iconst 0, 1), (35, .istore 5, 2), (37, .iload 5, 2), (39, .iload 4, 2), (41, .if_icmp .ge 59, 3), (44, .aload_n 2, 1), (45, .getfield 273, 3), (48, .iload 4, 2), (50, .iaload, 1), (51, .aload_n 2, 1), (52, .getfield 273, 3), (55, .iload 5, 2), (57, .iaload, 1), (58, .isub, 1), (59, .istore 6, 2), (61, .aload_n 2, 1), (62, .getfield 270, 3), (65, .iload 4, 2), (67, .iaload, 1), (68, .aload_n 2, 1), (69, .getfield 270, 3), (72, .iload 5, 2), (74, .iaload, 1), (75, .isub, 1), (76, .istore 7, 2), (78, .iload_n 3, 1), (79, .iload 6, 2), (81, .iload 6, 2), (83, .imul, 1), (84, .iload 7, 2), (86, .iload 7, 2), (88, .imul, 1), (89, .iadd, 1), (90, .invokestatic 184, 3), (93, .istore_n 3, 1), (94, .iinc 5 1, 3), (97, .goto (-60), 3), (100, .iinc 4 1, 3), (103, .goto (-78), 3), (106, .iload_n 3, 1), (107, .ireturn, 1)]
theorem tk_X1_wide : ∀ q ∈ tb_X1_wide, decode cX1_wide q.1 = .ok q.2 := by decide +kernel
theorem dc_X1_wide (k : Nat) {pc n : Nat} {i : Instr} (h : tb_X1_wide[k]? = some (pc, i, n)) : decode cX1_wide pc = .ok (i, n) := tk_X1_wide (pc, i, n) (List.mem_of_getElem? h)
abbrev mX1_wide : e_M := (yX1_wide, cX1_wide, 8, some (.int), [])
theorem ok_X1_wide : e_mok mX1_wide 1 := ⟨q931, q108, by decide +kernel, fun sig h => by cases h; rfl⟩
def lp_X1_wide_37 (F : Nat) (h : e_H) (x18 : Nat) (x4_25 : Int32) : Nat → Int32 → Int32 → Option (Int32)
  | 0, _, _ => none
  | n + 1, x3_37, x5_37 =>
    if x4_25 ≤ x5_37 then
      some x3_37
    else
      Option.bind (e_fA h x18 6 0) (fun x45 =>
      Option.bind (e_aI h x45 0 x4_25) (fun x50 =>
      Option.bind (e_fA h x18 6 0) (fun x52 =>
      Option.bind (e_aI h x52 0 x5_37) (fun x57 =>
      Option.bind (some (x50 - x57)) (fun x59 =>
      Option.bind (e_fA h x18 6 1) (fun x62 =>
      Option.bind (e_aI h x62 0 x4_25) (fun x67 =>
      Option.bind (e_fA h x18 6 1) (fun x69 =>
      Option.bind (e_aI h x69 0 x5_37) (fun x74 =>
      Option.bind (some (x67 - x74)) (fun x76 =>
      Option.bind (some (if x3_37 < ((x59 * x59) + (x76 * x76)) then ((x59 * x59) + (x76 * x76)) else x3_37)) (fun x93 =>
      Option.bind (some (x5_37 + 1)) (fun x94 =>
      lp_X1_wide_37 F h x18 x4_25 n x93 x94))))))))))))
def lp_X1_wide_25 (F : Nat) (h : e_H) (x18 : Nat) : Nat → Int32 → Int32 → Option (Int32)
  | 0, _, _ => none
  | n + 1, x3_25, x4_25 =>
    Option.bind (e_fI h x18 6 2) (fun x28 =>
    if x28 ≤ x4_25 then
      some x3_25
    else
      Option.bind (
          lp_X1_wide_37 F h x18 x4_25 F x3_25 0
        : Option (Int32)) (fun x3_100_2 =>
      Option.bind (some (x4_25 + 1)) (fun x100 =>
      lp_X1_wide_25 F h x18 n x3_100_2 x100)))
def f_X1_wide (F : Nat) (h : e_H) (a0 : Nat) (a1 : Int32) : Option Int32 :=
  Option.bind (e_is h a0 0) (fun _ =>
  Option.bind (f_X1_isBand h a0 a1) (fun x2 =>
  if x2 = 0 then
    some (-1)
  else
    Option.bind (e_fA h a0 0 6) (fun x11 =>
    Option.bind (e_fA h x11 2 0) (fun x14 =>
    Option.bind (e_aA h x14 4 a1) (fun x18 =>
    Option.bind (
        lp_X1_wide_25 F h x18 F 0 0
      : Option (Int32)) (fun x3_106_1 =>
    some x3_106_1))))))
set_option maxHeartbeats 4000000 in
set_option maxRecDepth 100000 in
theorem ct_X1_wide {l : Launch} {D : e_D} {B : Heap} {F : Nat} {d : Nat} {h : e_H} {a0 : Nat} {a1 : Int32} {v : Int32} (hd : 3 ≤ d) (e : f_X1_wide F h a0 a1 = some v) : e_Run l D B d mX1_wide [.ref a0, .int a1] h (.ok (some (.int v)), h) := by
  refine e_start [some (.ref a0), some (.int a1), none, none, none, none, none, none] (by decide) rfl rfl rfl (Nat.le_of_ble_eq_true rfl) (fun K hl0 hD0 hB0 hM hd0 hr => ?_)
  subst hl0 hD0 hB0 hd0
  have ho : (k_M K).1.cls = "PegBands" := by rw [hM]; rfl
  have hT : (k_M K).2.2.2.1 = some (.int) := by rw [hM]
  refine (show Sx K cX1_wide 0 [some (.ref a0), some (.int a1), none, none, none, none, none, none] [] h (f_X1_wide F h a0 a1) (fun w => w = v) from ?_) _ e rfl
  clear e
  unfold f_X1_wide
  refine S_aload_n (dc_X1_wide 0 rfl) rfl ?_
  refine S_iload_n (dc_X1_wide 1 rfl) rfl ?_
  refine Sx.ask (fun _ i2 => ?_)
  refine S_roI (d := k_d K - 1) (e_callV (b := a0) (As := [.int a1]) (rest := []) ok_X1_isBand rfl (Nat.le_of_ble_eq_true rfl) (dc_X1_wide 2 rfl) ho q859 q861 (show e_cl[0]? = some (RX1, TX1, 37) from rfl) (e_sel.of qs7) (e_is_of i2) rfl (Nat.le_of_ble_eq_true rfl)) (by omega) (fun _ e => ct_X1_isBand (by omega) e) (fun x2 e2 => ?_)
  refine S_if_ne 10 (dc_X1_wide 3 rfl) rfl (fun c5 => ?_) (fun c5 => ?_)
  · refine S_aload_n (dc_X1_wide 6 rfl) rfl ?_
    refine S_getA (dc_X1_wide 7 rfl) ho fl_X1_63_0_6 (fun _ _ => rfl) (fun x11 e11 => ?_)
    refine S_getA (dc_X1_wide 8 rfl) ho fl_X1_248_2_0 (fun _ _ => rfl) (fun x14 e14 => ?_)
    refine S_iload_n (dc_X1_wide 9 rfl) rfl ?_
    refine S_aaldA4 (dc_X1_wide 10 rfl) (fun x18 e18 => ?_)
    refine S_astore_n (L' := [some (.ref a0), some (.int a1), some (.ref x18), none, none, none, none, none]) (dc_X1_wide 11 rfl) rfl ?_
    refine S_iconst_ 0 (dc_X1_wide 12 rfl) rfl ?_
    refine S_istore_n (L' := [some (.ref a0), some (.int a1), some (.ref x18), some (.int 0), none, none, none, none]) (dc_X1_wide 13 rfl) rfl ?_
    refine S_iconst_ 0 (dc_X1_wide 14 rfl) rfl ?_
    refine S_istore (L' := [some (.ref a0), some (.int a1), some (.ref x18), some (.int 0), some (.int 0), none, none, none]) (dc_X1_wide 15 rfl) rfl ?_
    refine Sx.regK1 (pc2 := 106) (L2 := fun (x3_106_1 : Int32) => [none, none, none, some (.int x3_106_1), none, none, none, none]) (st2 := fun (x3_106_1 : Int32) => []) (h2 := fun (x3_106_1 : Int32) => h) ?_ (fun Q1 hK1 => ?_)
    · intro x3_106_1
      show Sx K cX1_wide 106 [none, none, none, some (.int x3_106_1), none, none, none, none] [] h _ _
      refine S_iload_n (dc_X1_wide 59 rfl) rfl ?_
      exact S_iret (dc_X1_wide 60 rfl) hT rfl (fun q => by cases q; exact hr)
    · have hK1 : ∀ (x3_106_1 : Int32), Sx K cX1_wide 106 [none, none, none, some (.int x3_106_1), none, none, none, none] [] h (some x3_106_1) Q1 := hK1
      have ih1 : ∀ (n : Nat) (x3_25 : Int32) (x4_25 : Int32), Sx K cX1_wide 25 [none, none, some (.ref x18), some (.int x3_25), some (.int x4_25), none, none, none] [] h (lp_X1_wide_25 F h x18 n x3_25 x4_25) Q1 := by
        intro n
        induction n with
        | zero => intro x3_25 x4_25; exact Sx.none
        | succ n ih1 =>
          intro x3_25 x4_25
          rw [lp_X1_wide_25.eq_2]
          refine S_iload (dc_X1_wide 16 rfl) rfl ?_
          refine S_aload_n (dc_X1_wide 17 rfl) rfl ?_
          refine S_getI (dc_X1_wide 18 rfl) ho fl_X1_251_6_2 (fun _ _ => rfl) (fun x28 e28 => ?_)
          refine S_icmp_ge 106 (dc_X1_wide 19 rfl) rfl (fun c31 => ?_) (fun c31 => ?_)
          · refine Sx.cut [true, true, false, true, false, true, true, true] ?_
            exact hK1 x3_25
          · refine S_iconst_ 0 (dc_X1_wide 20 rfl) rfl ?_
            refine S_istore (L' := [none, none, some (.ref x18), some (.int x3_25), some (.int x4_25), some (.int 0), none, none]) (dc_X1_wide 21 rfl) rfl ?_
            refine Sx.regK1 (pc2 := 100) (L2 := fun (x3_100_2 : Int32) => [none, none, some (.ref x18), some (.int x3_100_2), some (.int x4_25), none, none, none]) (st2 := fun (x3_100_2 : Int32) => []) (h2 := fun (x3_100_2 : Int32) => h) ?_ (fun Q2 hK2 => ?_)
            · intro x3_100_2
              show Sx K cX1_wide 100 [none, none, some (.ref x18), some (.int x3_100_2), some (.int x4_25), none, none, none] [] h _ _
              refine S_iincN 1 (L' := fun x100 => [none, none, some (.ref x18), some (.int x3_100_2), some (.int x100), none, none, none]) (dc_X1_wide 57 rfl) rfl rfl (fun _ => rfl) (fun x100 n100 => ?_)
              refine S_goto 25 (dc_X1_wide 58 rfl) rfl ?_
              exact ih1 x3_100_2 x100
            · have hK2 : ∀ (x3_100_2 : Int32), Sx K cX1_wide 100 [none, none, some (.ref x18), some (.int x3_100_2), some (.int x4_25), none, none, none] [] h (some x3_100_2) Q2 := hK2
              have ih2 : ∀ (n : Nat) (x3_37 : Int32) (x5_37 : Int32), Sx K cX1_wide 37 [none, none, some (.ref x18), some (.int x3_37), some (.int x4_25), some (.int x5_37), none, none] [] h (lp_X1_wide_37 F h x18 x4_25 n x3_37 x5_37) Q2 := by
                intro n
                induction n with
                | zero => intro x3_37 x5_37; exact Sx.none
                | succ n ih2 =>
                  intro x3_37 x5_37
                  rw [lp_X1_wide_37.eq_2]
                  refine S_iload (dc_X1_wide 22 rfl) rfl ?_
                  refine S_iload (dc_X1_wide 23 rfl) rfl ?_
                  refine S_icmp_ge 100 (dc_X1_wide 24 rfl) rfl (fun c41 => ?_) (fun c41 => ?_)
                  · refine Sx.cut [true, true, true, true, true, false, true, true] ?_
                    exact hK2 x3_37
                  · refine S_aload_n (dc_X1_wide 25 rfl) rfl ?_
                    refine S_getA (dc_X1_wide 26 rfl) ho fl_X1_273_6_0 (fun _ _ => rfl) (fun x45 e45 => ?_)
                    refine S_iload (dc_X1_wide 27 rfl) rfl ?_
                    refine S_iald (dc_X1_wide 28 rfl) (fun x50 e50 => ?_)
                    refine S_aload_n (dc_X1_wide 29 rfl) rfl ?_
                    refine S_getA (dc_X1_wide 30 rfl) ho fl_X1_273_6_0 (fun _ _ => rfl) (fun x52 e52 => ?_)
                    refine S_iload (dc_X1_wide 31 rfl) rfl ?_
                    refine S_iald (dc_X1_wide 32 rfl) (fun x57 e57 => ?_)
                    refine S_isub (dc_X1_wide 33 rfl) ?_
                    refine Sx.nameI (fun x59 n59 => ?_)
                    refine S_istore (L' := [none, none, some (.ref x18), some (.int x3_37), some (.int x4_25), some (.int x5_37), some (.int x59), none]) (dc_X1_wide 34 rfl) rfl ?_
                    refine S_aload_n (dc_X1_wide 35 rfl) rfl ?_
                    refine S_getA (dc_X1_wide 36 rfl) ho fl_X1_270_6_1 (fun _ _ => rfl) (fun x62 e62 => ?_)
                    refine S_iload (dc_X1_wide 37 rfl) rfl ?_
                    refine S_iald (dc_X1_wide 38 rfl) (fun x67 e67 => ?_)
                    refine S_aload_n (dc_X1_wide 39 rfl) rfl ?_
                    refine S_getA (dc_X1_wide 40 rfl) ho fl_X1_270_6_1 (fun _ _ => rfl) (fun x69 e69 => ?_)
                    refine S_iload (dc_X1_wide 41 rfl) rfl ?_
                    refine S_iald (dc_X1_wide 42 rfl) (fun x74 e74 => ?_)
                    refine S_isub (dc_X1_wide 43 rfl) ?_
                    refine Sx.nameI (fun x76 n76 => ?_)
                    refine S_istore (L' := [none, none, some (.ref x18), some (.int x3_37), some (.int x4_25), some (.int x5_37), some (.int x59), some (.int x76)]) (dc_X1_wide 44 rfl) rfl ?_
                    refine S_iload_n (dc_X1_wide 45 rfl) rfl ?_
                    refine S_iload (dc_X1_wide 46 rfl) rfl ?_
                    refine S_iload (dc_X1_wide 47 rfl) rfl ?_
                    refine S_imul (dc_X1_wide 48 rfl) ?_
                    refine S_iload (dc_X1_wide 49 rfl) rfl ?_
                    refine S_iload (dc_X1_wide 50 rfl) rfl ?_
                    refine S_imul (dc_X1_wide 51 rfl) ?_
                    refine S_iadd (dc_X1_wide 52 rfl) ?_
                    refine S_mmax (dc_X1_wide 53 rfl) ho q822 (by omega) (Nat.le_of_ble_eq_true rfl) ?_
                    refine Sx.nameI (fun x93 n93 => ?_)
                    refine S_istore_n (L' := [none, none, some (.ref x18), some (.int x93), some (.int x4_25), some (.int x5_37), some (.int x59), some (.int x76)]) (dc_X1_wide 54 rfl) rfl ?_
                    refine S_iincN 1 (L' := fun x94 => [none, none, some (.ref x18), some (.int x93), some (.int x4_25), some (.int x94), some (.int x59), some (.int x76)]) (dc_X1_wide 55 rfl) rfl rfl (fun _ => rfl) (fun x94 n94 => ?_)
                    refine S_goto 37 (dc_X1_wide 56 rfl) rfl ?_
                    refine Sx.cut [true, true, true, true, true, true, false, false] ?_
                    exact ih2 x93 x94
              exact ih2 F x3_25 0
      refine Sx.cut [false, false, true, true, true, true, true, true] ?_
      exact ih1 F 0 0
  · refine S_iconst_ (-1) (dc_X1_wide 4 rfl) rfl ?_
    exact S_iret (dc_X1_wide 5 rfl) hT rfl (fun q => by cases q; exact hr)
abbrev cX1_least : ByteArray := prog_1_method_35_code
def yX1_least : MethodName := ⟨"PegBands", "least", "([II)I"⟩
def tb_X1_least : List (Nat × Instr × Nat) := [(0, .ldc_w 285, 3), (3, .istore_n 2, 1), (4, .iconst 0, 1), (5, .istore_n 3, 1), (6, .iload_n 3, 1), (7, .iload_n 1, 1), (8, .if_icmp .ge 17, 3), (11, .iload_n 2, 1), (12, .aload_n 0, 1), (13, .iload_n 3, 1), (14, .iaload, 1), (15, .invokestatic 181, 3), (18, .istore_n 2, 1), (19, .iinc 3 1, 3), (22, .goto (-16), 3), (25, .iload_n 2, 1), (26, .ireturn, 1)]
theorem tk_X1_least : ∀ q ∈ tb_X1_least, decode cX1_least q.1 = .ok q.2 := by decide +kernel
theorem dc_X1_least (k : Nat) {pc n : Nat} {i : Instr} (h : tb_X1_least[k]? = some (pc, i, n)) : decode cX1_least pc = .ok (i, n) := tk_X1_least (pc, i, n) (List.mem_of_getElem? h)
abbrev mX1_least : e_M := (yX1_least, cX1_least, 4, some (.int), [])
theorem ok_X1_least : e_mok mX1_least 2 := ⟨q938, q108, by decide +kernel, fun sig h => by cases h; rfl⟩
def lp_X1_least_6 (F : Nat) (h : e_H) (a0 : Nat) (a1 : Int32) : Nat → Int32 → Int32 → Option (Int32)
  | 0, _, _ => none
  | n + 1, x2_6, x3_6 =>
    if a1 ≤ x3_6 then
      some x2_6
    else
      Option.bind (e_aI h a0 0 x3_6) (fun x14 =>
      Option.bind (some (if x14 < x2_6 then x14 else x2_6)) (fun x18 =>
      Option.bind (some (x3_6 + 1)) (fun x19 =>
      lp_X1_least_6 F h a0 a1 n x18 x19)))
def f_X1_least (F : Nat) (h : e_H) (a0 : Nat) (a1 : Int32) : Option Int32 :=
  Option.bind (
      lp_X1_least_6 F h a0 a1 F 1000000000 0
    : Option (Int32)) (fun x2_25_1 =>
  some x2_25_1)
set_option maxHeartbeats 4000000 in
set_option maxRecDepth 100000 in
theorem ct_X1_least {l : Launch} {D : e_D} {B : Heap} {F : Nat} {d : Nat} {h : e_H} {a0 : Nat} {a1 : Int32} {v : Int32} (hd : 1 ≤ d) (e : f_X1_least F h a0 a1 = some v) : e_Run l D B d mX1_least [.ref a0, .int a1] h (.ok (some (.int v)), h) := by
  refine e_start [some (.ref a0), some (.int a1), none, none] (by decide) rfl rfl rfl (Nat.le_of_ble_eq_true rfl) (fun K hl0 hD0 hB0 hM hd0 hr => ?_)
  subst hl0 hD0 hB0 hd0
  have ho : (k_M K).1.cls = "PegBands" := by rw [hM]; rfl
  have hT : (k_M K).2.2.2.1 = some (.int) := by rw [hM]
  refine (show Sx K cX1_least 0 [some (.ref a0), some (.int a1), none, none] [] h (f_X1_least F h a0 a1) (fun w => w = v) from ?_) _ e rfl
  clear e
  unfold f_X1_least
  refine S_ldcw 1000000000 (dc_X1_least 0 rfl) ho q907 ?_
  refine S_istore_n (L' := [some (.ref a0), some (.int a1), some (.int 1000000000), none]) (dc_X1_least 1 rfl) rfl ?_
  refine S_iconst_ 0 (dc_X1_least 2 rfl) rfl ?_
  refine S_istore_n (L' := [some (.ref a0), some (.int a1), some (.int 1000000000), some (.int 0)]) (dc_X1_least 3 rfl) rfl ?_
  refine Sx.regK1 (pc2 := 25) (L2 := fun (x2_25_1 : Int32) => [none, none, some (.int x2_25_1), none]) (st2 := fun (x2_25_1 : Int32) => []) (h2 := fun (x2_25_1 : Int32) => h) ?_ (fun Q1 hK1 => ?_)
  · intro x2_25_1
    show Sx K cX1_least 25 [none, none, some (.int x2_25_1), none] [] h _ _
    refine S_iload_n (dc_X1_least 15 rfl) rfl ?_
    exact S_iret (dc_X1_least 16 rfl) hT rfl (fun q => by cases q; exact hr)
  · have hK1 : ∀ (x2_25_1 : Int32), Sx K cX1_least 25 [none, none, some (.int x2_25_1), none] [] h (some x2_25_1) Q1 := hK1
    have ih1 : ∀ (n : Nat) (x2_6 : Int32) (x3_6 : Int32), Sx K cX1_least 6 [some (.ref a0), some (.int a1), some (.int x2_6), some (.int x3_6)] [] h (lp_X1_least_6 F h a0 a1 n x2_6 x3_6) Q1 := by
      intro n
      induction n with
      | zero => intro x2_6 x3_6; exact Sx.none
      | succ n ih1 =>
        intro x2_6 x3_6
        rw [lp_X1_least_6.eq_2]
        refine S_iload_n (dc_X1_least 4 rfl) rfl ?_
        refine S_iload_n (dc_X1_least 5 rfl) rfl ?_
        refine S_icmp_ge 25 (dc_X1_least 6 rfl) rfl (fun c8 => ?_) (fun c8 => ?_)
        · refine Sx.cut [false, false, true, false] ?_
          exact hK1 x2_6
        · refine S_iload_n (dc_X1_least 7 rfl) rfl ?_
          refine S_aload_n (dc_X1_least 8 rfl) rfl ?_
          refine S_iload_n (dc_X1_least 9 rfl) rfl ?_
          refine S_iald (dc_X1_least 10 rfl) (fun x14 e14 => ?_)
          refine S_mmin (dc_X1_least 11 rfl) ho q819 (by omega) (Nat.le_of_ble_eq_true rfl) ?_
          refine Sx.nameI (fun x18 n18 => ?_)
          refine S_istore_n (L' := [some (.ref a0), some (.int a1), some (.int x18), some (.int x3_6)]) (dc_X1_least 12 rfl) rfl ?_
          refine S_iincN 1 (L' := fun x19 => [some (.ref a0), some (.int a1), some (.int x18), some (.int x19)]) (dc_X1_least 13 rfl) rfl rfl (fun _ => rfl) (fun x19 n19 => ?_)
          refine S_goto 6 (dc_X1_least 14 rfl) rfl ?_
          exact ih1 x18 x19
    exact ih1 F 1000000000 0
abbrev cX1_most : ByteArray := prog_1_method_36_code
def yX1_most : MethodName := ⟨"PegBands", "most", "([II)I"⟩
def tb_X1_most : List (Nat × Instr × Nat) := [(0, .ldc_w 319, 3), (3, .istore_n 2, 1), (4, .iconst 0, 1), (5, .istore_n 3, 1), (6, .iload_n 3, 1), (7, .iload_n 1, 1), (8, .if_icmp .ge 17, 3), (11, .iload_n 2, 1), (12, .aload_n 0, 1), (13, .iload_n 3, 1), (14, .iaload, 1), (15, .invokestatic 184, 3), (18, .istore_n 2, 1), (19, .iinc 3 1, 3), (22, .goto (-16), 3), (25, .iload_n 2, 1), (26, .ireturn, 1)]
theorem tk_X1_most : ∀ q ∈ tb_X1_most, decode cX1_most q.1 = .ok q.2 := by decide +kernel
theorem dc_X1_most (k : Nat) {pc n : Nat} {i : Instr} (h : tb_X1_most[k]? = some (pc, i, n)) : decode cX1_most pc = .ok (i, n) := tk_X1_most (pc, i, n) (List.mem_of_getElem? h)
abbrev mX1_most : e_M := (yX1_most, cX1_most, 4, some (.int), [])
theorem ok_X1_most : e_mok mX1_most 2 := ⟨q941, q108, by decide +kernel, fun sig h => by cases h; rfl⟩
def lp_X1_most_6 (F : Nat) (h : e_H) (a0 : Nat) (a1 : Int32) : Nat → Int32 → Int32 → Option (Int32)
  | 0, _, _ => none
  | n + 1, x2_6, x3_6 =>
    if a1 ≤ x3_6 then
      some x2_6
    else
      Option.bind (e_aI h a0 0 x3_6) (fun x14 =>
      Option.bind (some (if x2_6 < x14 then x14 else x2_6)) (fun x18 =>
      Option.bind (some (x3_6 + 1)) (fun x19 =>
      lp_X1_most_6 F h a0 a1 n x18 x19)))
def f_X1_most (F : Nat) (h : e_H) (a0 : Nat) (a1 : Int32) : Option Int32 :=
  Option.bind (
      lp_X1_most_6 F h a0 a1 F (-1000000000) 0
    : Option (Int32)) (fun x2_25_1 =>
  some x2_25_1)
set_option maxHeartbeats 4000000 in
set_option maxRecDepth 100000 in
theorem ct_X1_most {l : Launch} {D : e_D} {B : Heap} {F : Nat} {d : Nat} {h : e_H} {a0 : Nat} {a1 : Int32} {v : Int32} (hd : 1 ≤ d) (e : f_X1_most F h a0 a1 = some v) : e_Run l D B d mX1_most [.ref a0, .int a1] h (.ok (some (.int v)), h) := by
  refine e_start [some (.ref a0), some (.int a1), none, none] (by decide) rfl rfl rfl (Nat.le_of_ble_eq_true rfl) (fun K hl0 hD0 hB0 hM hd0 hr => ?_)
  subst hl0 hD0 hB0 hd0
  have ho : (k_M K).1.cls = "PegBands" := by rw [hM]; rfl
  have hT : (k_M K).2.2.2.1 = some (.int) := by rw [hM]
  refine (show Sx K cX1_most 0 [some (.ref a0), some (.int a1), none, none] [] h (f_X1_most F h a0 a1) (fun w => w = v) from ?_) _ e rfl
  clear e
  unfold f_X1_most
  refine S_ldcw (-1000000000) (dc_X1_most 0 rfl) ho q942 ?_
  refine S_istore_n (L' := [some (.ref a0), some (.int a1), some (.int (-1000000000)), none]) (dc_X1_most 1 rfl) rfl ?_
  refine S_iconst_ 0 (dc_X1_most 2 rfl) rfl ?_
  refine S_istore_n (L' := [some (.ref a0), some (.int a1), some (.int (-1000000000)), some (.int 0)]) (dc_X1_most 3 rfl) rfl ?_
  refine Sx.regK1 (pc2 := 25) (L2 := fun (x2_25_1 : Int32) => [none, none, some (.int x2_25_1), none]) (st2 := fun (x2_25_1 : Int32) => []) (h2 := fun (x2_25_1 : Int32) => h) ?_ (fun Q1 hK1 => ?_)
  · intro x2_25_1
    show Sx K cX1_most 25 [none, none, some (.int x2_25_1), none] [] h _ _
    refine S_iload_n (dc_X1_most 15 rfl) rfl ?_
    exact S_iret (dc_X1_most 16 rfl) hT rfl (fun q => by cases q; exact hr)
  · have hK1 : ∀ (x2_25_1 : Int32), Sx K cX1_most 25 [none, none, some (.int x2_25_1), none] [] h (some x2_25_1) Q1 := hK1
    have ih1 : ∀ (n : Nat) (x2_6 : Int32) (x3_6 : Int32), Sx K cX1_most 6 [some (.ref a0), some (.int a1), some (.int x2_6), some (.int x3_6)] [] h (lp_X1_most_6 F h a0 a1 n x2_6 x3_6) Q1 := by
      intro n
      induction n with
      | zero => intro x2_6 x3_6; exact Sx.none
      | succ n ih1 =>
        intro x2_6 x3_6
        rw [lp_X1_most_6.eq_2]
        refine S_iload_n (dc_X1_most 4 rfl) rfl ?_
        refine S_iload_n (dc_X1_most 5 rfl) rfl ?_
        refine S_icmp_ge 25 (dc_X1_most 6 rfl) rfl (fun c8 => ?_) (fun c8 => ?_)
        · refine Sx.cut [false, false, true, false] ?_
          exact hK1 x2_6
        · refine S_iload_n (dc_X1_most 7 rfl) rfl ?_
          refine S_aload_n (dc_X1_most 8 rfl) rfl ?_
          refine S_iload_n (dc_X1_most 9 rfl) rfl ?_
          refine S_iald (dc_X1_most 10 rfl) (fun x14 e14 => ?_)
          refine S_mmax (dc_X1_most 11 rfl) ho q822 (by omega) (Nat.le_of_ble_eq_true rfl) ?_
          refine Sx.nameI (fun x18 n18 => ?_)
          refine S_istore_n (L' := [some (.ref a0), some (.int a1), some (.int x18), some (.int x3_6)]) (dc_X1_most 12 rfl) rfl ?_
          refine S_iincN 1 (L' := fun x19 => [some (.ref a0), some (.int a1), some (.int x18), some (.int x19)]) (dc_X1_most 13 rfl) rfl rfl (fun _ => rfl) (fun x19 n19 => ?_)
          refine S_goto 6 (dc_X1_most 14 rfl) rfl ?_
          exact ih1 x18 x19
    exact ih1 F (-1000000000) 0
abbrev cX1_rim : ByteArray := prog_1_method_37_code
def yX1_rim : MethodName := ⟨"PegBands", "rim", "(II)I"⟩
def tb_X1_rim : List (Nat × Instr × Nat) := [(0, .aload_n 0, 1), (1, .iload_n 1, 1), (2, .invokevirtual 241, 3), (5, .ifCond .eq 12, 3), (8, .iload_n 2, 1), (9, .iconst 0, 1), (10, .iconst 3, 1), (11, .invokestatic 187, 3), (14, .ifCond .ne 5, 3), (17, .iconst (-1), 1), (18, .ireturn, 1), (19, .aload_n 0, 1), (20, .getfield 63, 3), (23, .getfield 248, 3), (26, .iload_n 1, 1), (27, .aaload, 1), (28, .astore_n 3, 1), (29, .iload_n 2, 1), (30, .iconst 2, 1), (31, .irem, 1), (32, .ifCond .ne 10, 3), (35, .aload_n 3, 1), (36, .getfield 273, 3), (39, .goto 7, 3), (42, .aload_n 3, 1), (43, .getfield 270, 3), (46, .astore 4, 2), (48, .iload_n 2, 1), (49, .iconst 2, 1), (50, .if_icmp .ge 15, 3), (53, .aload 4, 2), (55, .aload_n 3, 1), (56, .getfield 251, 3), (59, .invokestatic 320, 3), (62, .goto 22, 3), (65, .aload 4, 2), (67, .aload_n 3, 1), (68, .getfield 251, 3), (71, .invokestatic 324, 3), (74, .aload 4, 2), (76, .aload_n 3, 1), (77, .getfield 251, 3), (80, .invokestatic 320, 3), (83, .isub, 1), (84, .ireturn, 1)]
theorem tk_X1_rim : ∀ q ∈ tb_X1_rim, decode cX1_rim q.1 = .ok q.2 := by decide +kernel
theorem dc_X1_rim (k : Nat) {pc n : Nat} {i : Instr} (h : tb_X1_rim[k]? = some (pc, i, n)) : decode cX1_rim pc = .ok (i, n) := tk_X1_rim (pc, i, n) (List.mem_of_getElem? h)
abbrev mX1_rim : e_M := (yX1_rim, cX1_rim, 5, some (.int), [])
theorem ok_X1_rim : e_mok mX1_rim 2 := ⟨q935, q108, by decide +kernel, fun sig h => by cases h; rfl⟩
def f_X1_rim (F : Nat) (h : e_H) (a0 : Nat) (a1 : Int32) (a2 : Int32) : Option Int32 :=
  Option.bind (e_is h a0 0) (fun _ =>
  Option.bind (f_X1_isBand h a0 a1) (fun x2 =>
  if x2 = 0 then
    some (-1)
  else
    Option.bind (f_X1_isIn a2 0 3) (fun x11 =>
    if x11 = 0 then
      some (-1)
    else
      Option.bind (e_fA h a0 0 6) (fun x20 =>
      Option.bind (e_fA h x20 2 0) (fun x23 =>
      Option.bind (e_aA h x23 4 a1) (fun x27 =>
      Option.bind (
          if (a2 - a2 / 2 * 2) = 0 then
            Option.bind (e_fA h x27 6 0) (fun x36 =>
            some x36)
          else
            Option.bind (e_fA h x27 6 1) (fun x43 =>
            some x43)
        : Option (Nat)) (fun s46_1 =>
      if 2 ≤ a2 then
        Option.bind (e_fI h x27 6 2) (fun x68 =>
        Option.bind (f_X1_most F h s46_1 x68) (fun x71 =>
        Option.bind (e_fI h x27 6 2) (fun x77 =>
        Option.bind (f_X1_least F h s46_1 x77) (fun x80 =>
        some (x71 - x80)))))
      else
        Option.bind (e_fI h x27 6 2) (fun x56 =>
        Option.bind (f_X1_least F h s46_1 x56) (fun x59 =>
        some x59)))))))))
set_option maxHeartbeats 4000000 in
set_option maxRecDepth 100000 in
theorem ct_X1_rim {l : Launch} {D : e_D} {B : Heap} {F : Nat} {d : Nat} {h : e_H} {a0 : Nat} {a1 : Int32} {a2 : Int32} {v : Int32} (hd : 3 ≤ d) (e : f_X1_rim F h a0 a1 a2 = some v) : e_Run l D B d mX1_rim [.ref a0, .int a1, .int a2] h (.ok (some (.int v)), h) := by
  refine e_start [some (.ref a0), some (.int a1), some (.int a2), none, none] (by decide) rfl rfl rfl (Nat.le_of_ble_eq_true rfl) (fun K hl0 hD0 hB0 hM hd0 hr => ?_)
  subst hl0 hD0 hB0 hd0
  have ho : (k_M K).1.cls = "PegBands" := by rw [hM]; rfl
  have hT : (k_M K).2.2.2.1 = some (.int) := by rw [hM]
  refine (show Sx K cX1_rim 0 [some (.ref a0), some (.int a1), some (.int a2), none, none] [] h (f_X1_rim F h a0 a1 a2) (fun w => w = v) from ?_) _ e rfl
  clear e
  unfold f_X1_rim
  refine S_aload_n (dc_X1_rim 0 rfl) rfl ?_
  refine S_iload_n (dc_X1_rim 1 rfl) rfl ?_
  refine Sx.ask (fun _ i2 => ?_)
  refine S_roI (d := k_d K - 1) (e_callV (b := a0) (As := [.int a1]) (rest := []) ok_X1_isBand rfl (Nat.le_of_ble_eq_true rfl) (dc_X1_rim 2 rfl) ho q859 q861 (show e_cl[0]? = some (RX1, TX1, 37) from rfl) (e_sel.of qs7) (e_is_of i2) rfl (Nat.le_of_ble_eq_true rfl)) (by omega) (fun _ e => ct_X1_isBand (by omega) e) (fun x2 e2 => ?_)
  refine S_if_eq 17 (dc_X1_rim 3 rfl) rfl (fun c5 => ?_) (fun c5 => ?_)
  · refine S_iconst_ (-1) (dc_X1_rim 9 rfl) rfl ?_
    exact S_iret (dc_X1_rim 10 rfl) hT rfl (fun q => by cases q; exact hr)
  · refine S_iload_n (dc_X1_rim 4 rfl) rfl ?_
    refine S_iconst_ 0 (dc_X1_rim 5 rfl) rfl ?_
    refine S_iconst_ 3 (dc_X1_rim 6 rfl) rfl ?_
    refine S_roI (d := k_d K - 1) (e_callS (As := [.int a2, .int 0, .int 3]) (rest := []) ok_X1_isIn rfl (Nat.le_of_ble_eq_true rfl) (dc_X1_rim 7 rfl) ho q825 q616 rfl (Nat.le_of_ble_eq_true rfl)) (by omega) (fun _ e => ct_X1_isIn (by omega) e) (fun x11 e11 => ?_)
    refine S_if_ne 19 (dc_X1_rim 8 rfl) rfl (fun c14 => ?_) (fun c14 => ?_)
    · refine S_aload_n (dc_X1_rim 11 rfl) rfl ?_
      refine S_getA (dc_X1_rim 12 rfl) ho fl_X1_63_0_6 (fun _ _ => rfl) (fun x20 e20 => ?_)
      refine S_getA (dc_X1_rim 13 rfl) ho fl_X1_248_2_0 (fun _ _ => rfl) (fun x23 e23 => ?_)
      refine S_iload_n (dc_X1_rim 14 rfl) rfl ?_
      refine S_aaldA4 (dc_X1_rim 15 rfl) (fun x27 e27 => ?_)
      refine S_astore_n (L' := [some (.ref a0), some (.int a1), some (.int a2), some (.ref x27), none]) (dc_X1_rim 16 rfl) rfl ?_
      refine S_iload_n (dc_X1_rim 17 rfl) rfl ?_
      refine S_iconst_ 2 (dc_X1_rim 18 rfl) rfl ?_
      refine S_irem (dc_X1_rim 19 rfl) (by decide) ?_
      refine Sx.regK1 (pc2 := 46) (L2 := fun (s46_1 : Nat) => [none, none, some (.int a2), some (.ref x27), none]) (st2 := fun (s46_1 : Nat) => [.ref s46_1]) (h2 := fun (s46_1 : Nat) => h) ?_ (fun Q1 hK1 => ?_)
      · intro s46_1
        show Sx K cX1_rim 46 [none, none, some (.int a2), some (.ref x27), none] [.ref s46_1] h _ _
        refine S_astore (L' := [none, none, some (.int a2), some (.ref x27), some (.ref s46_1)]) (dc_X1_rim 26 rfl) rfl ?_
        refine S_iload_n (dc_X1_rim 27 rfl) rfl ?_
        refine S_iconst_ 2 (dc_X1_rim 28 rfl) rfl ?_
        refine S_icmp_ge 65 (dc_X1_rim 29 rfl) rfl (fun c50 => ?_) (fun c50 => ?_)
        · refine S_aload (dc_X1_rim 35 rfl) rfl ?_
          refine S_aload_n (dc_X1_rim 36 rfl) rfl ?_
          refine S_getI (dc_X1_rim 37 rfl) ho fl_X1_251_6_2 (fun _ _ => rfl) (fun x68 e68 => ?_)
          refine S_roI (d := k_d K - 1) (e_callS (As := [.ref s46_1, .int x68]) (rest := []) ok_X1_most rfl (Nat.le_of_ble_eq_true rfl) (dc_X1_rim 38 rfl) ho q939 q940 rfl (Nat.le_of_ble_eq_true rfl)) (by omega) (fun _ e => ct_X1_most (by omega) e) (fun x71 e71 => ?_)
          refine S_aload (dc_X1_rim 39 rfl) rfl ?_
          refine S_aload_n (dc_X1_rim 40 rfl) rfl ?_
          refine S_getI (dc_X1_rim 41 rfl) ho fl_X1_251_6_2 (fun _ _ => rfl) (fun x77 e77 => ?_)
          refine S_roI (d := k_d K - 1) (e_callS (As := [.ref s46_1, .int x77]) (rest := [.int x71]) ok_X1_least rfl (Nat.le_of_ble_eq_true rfl) (dc_X1_rim 42 rfl) ho q936 q937 rfl (Nat.le_of_ble_eq_true rfl)) (by omega) (fun _ e => ct_X1_least (by omega) e) (fun x80 e80 => ?_)
          refine S_isub (dc_X1_rim 43 rfl) ?_
          exact S_iret (dc_X1_rim 44 rfl) hT rfl (fun q => by cases q; exact hr)
        · refine S_aload (dc_X1_rim 30 rfl) rfl ?_
          refine S_aload_n (dc_X1_rim 31 rfl) rfl ?_
          refine S_getI (dc_X1_rim 32 rfl) ho fl_X1_251_6_2 (fun _ _ => rfl) (fun x56 e56 => ?_)
          refine S_roI (d := k_d K - 1) (e_callS (As := [.ref s46_1, .int x56]) (rest := []) ok_X1_least rfl (Nat.le_of_ble_eq_true rfl) (dc_X1_rim 33 rfl) ho q936 q937 rfl (Nat.le_of_ble_eq_true rfl)) (by omega) (fun _ e => ct_X1_least (by omega) e) (fun x59 e59 => ?_)
          refine S_goto 84 (dc_X1_rim 34 rfl) rfl ?_
          exact S_iret (dc_X1_rim 44 rfl) hT rfl (fun q => by cases q; exact hr)
      · have hK1 : ∀ (s46_1 : Nat), Sx K cX1_rim 46 [none, none, some (.int a2), some (.ref x27), none] [.ref s46_1] h (some s46_1) Q1 := hK1
        refine S_if_ne 42 (dc_X1_rim 20 rfl) rfl (fun c32 => ?_) (fun c32 => ?_)
        · refine S_aload_n (dc_X1_rim 24 rfl) rfl ?_
          refine S_getA (dc_X1_rim 25 rfl) ho fl_X1_270_6_1 (fun _ _ => rfl) (fun x43 e43 => ?_)
          refine Sx.cut [false, false, true, true, true] ?_
          exact hK1 x43
        · refine S_aload_n (dc_X1_rim 21 rfl) rfl ?_
          refine S_getA (dc_X1_rim 22 rfl) ho fl_X1_273_6_0 (fun _ _ => rfl) (fun x36 e36 => ?_)
          refine S_goto 46 (dc_X1_rim 23 rfl) rfl ?_
          refine Sx.cut [false, false, true, true, true] ?_
          exact hK1 x36
    · refine S_iconst_ (-1) (dc_X1_rim 9 rfl) rfl ?_
      exact S_iret (dc_X1_rim 10 rfl) hT rfl (fun q => by cases q; exact hr)
abbrev cX1_form : ByteArray := prog_1_method_38_code
def yX1_form : MethodName := ⟨"PegBands", "form", "(II)I"⟩
def tb_X1_form : List (Nat × Instr × Nat) := [(0, .aload_n 0, 1), (1, .iload_n 1, 1), (2, .invokevirtual 241, 3), (5, .ifCond .eq 12, 3), (8, .iload_n 2, 1), (9, .iconst 0, 1), (10, .iconst 2, 1), (11, .invokestatic 187, 3), (14, .ifCond .ne 5, 3), (17, .iconst (-1), 1), (18, .ireturn, 1), (19, .aload_n 0, 1), (20, .aload_n 0, 1), (21, .getfield 63, 3), (24, .getfield 248, 3), (27, .iload_n 1, 1), (28, .aaload, 1), (29, .iload_n 2, 1), (30, .invokevirtual 303, 3), (33, .aload_n 0, 1), (34, .iconst 2, 1), (35, .aload_n 0, 1), (36, .getfield 63, 3), (39, .getfield 248, 3), (42, .iload_n 1, 1), (43, .aaload, 1), (44, .getfield 251, 3), (47, .imul, 1), (48, .putfield 327, 3), (51, .aload_n 0, 1), (52, .getfield 96, 3), (55, .iconst 0, 1), (56, .aload_n 0, 1), (57, .getfield 102, 3), (60, .iconst 0, 1), (61, .aload_n 0, 1), (62, .getfield 327, 3), (65, .invokestatic 297, 3), (68, .aload_n 0, 1), (69, .getfield 327, 3), (72, .ireturn, 1)]
theorem tk_X1_form : ∀ q ∈ tb_X1_form, decode cX1_form q.1 = .ok q.2 := by decide +kernel
theorem dc_X1_form (k : Nat) {pc n : Nat} {i : Instr} (h : tb_X1_form[k]? = some (pc, i, n)) : decode cX1_form pc = .ok (i, n) := tk_X1_form (pc, i, n) (List.mem_of_getElem? h)
abbrev mX1_form : e_M := (yX1_form, cX1_form, 3, some (.int), [])
theorem ok_X1_form : e_mok mX1_form 2 := ⟨q946, q108, by decide +kernel, fun sig h => by cases h; rfl⟩
theorem fl_X1_327_0_17 : e_FL "PegBands" 327 0 17 := ⟨_, rfl, by decide, Or.inl q475⟩
def f_X1_form (F : Nat) (h : e_H) (a0 : Nat) (a1 : Int32) (a2 : Int32) : Option (Int32 × e_H) :=
  Option.bind (e_is h a0 0) (fun _ =>
  Option.bind (f_X1_isBand h a0 a1) (fun x2 =>
  if x2 = 0 then
    some ((-1), h)
  else
    Option.bind (f_X1_isIn a2 0 2) (fun x11 =>
    if x11 = 0 then
      some ((-1), h)
    else
      Option.bind (e_fA h a0 0 6) (fun x21 =>
      Option.bind (e_fA h x21 2 0) (fun x24 =>
      Option.bind (e_aA h x24 4 a1) (fun x28 =>
      Option.bind (f_X1_settle F h a0 x28 a2) (fun h30 =>
      Option.bind (e_fA h30 a0 0 6) (fun x36 =>
      Option.bind (e_fA h30 x36 2 0) (fun x39 =>
      Option.bind (e_aA h30 x39 4 a1) (fun x43 =>
      Option.bind (e_fI h30 x43 6 2) (fun x44 =>
      Option.bind (e_gI h30 a0 0 17 (2 * x44)) (fun h48 =>
      Option.bind (e_fA h48 a0 0 14) (fun x52 =>
      Option.bind (e_fA h48 a0 0 16) (fun x57 =>
      Option.bind (e_fI h48 a0 0 17) (fun x62 =>
      Option.bind (e_cpI h48 x52 0 x57 0 x62) (fun h65 =>
      Option.bind (e_fI h65 a0 0 17) (fun x69 =>
      some (x69, h65))))))))))))))))))
set_option maxHeartbeats 4000000 in
set_option maxRecDepth 100000 in
theorem ct_X1_form {l : Launch} {D : e_D} {B : Heap} {F : Nat} {d : Nat} {h : e_H} {a0 : Nat} {a1 : Int32} {a2 : Int32} {v : Int32} {h1 : e_H} (hd : 3 ≤ d) (e : f_X1_form F h a0 a1 a2 = some (v, h1)) : e_Run l D B d mX1_form [.ref a0, .int a1, .int a2] h (.ok (some (.int v)), h1) := by
  refine e_start [some (.ref a0), some (.int a1), some (.int a2)] (by decide) rfl rfl rfl (Nat.le_of_ble_eq_true rfl) (fun K hl0 hD0 hB0 hM hd0 hr => ?_)
  subst hl0 hD0 hB0 hd0
  have ho : (k_M K).1.cls = "PegBands" := by rw [hM]; rfl
  have hT : (k_M K).2.2.2.1 = some (.int) := by rw [hM]
  refine (show Sx K cX1_form 0 [some (.ref a0), some (.int a1), some (.int a2)] [] h (f_X1_form F h a0 a1 a2) (fun w => w = (v, h1)) from ?_) _ e rfl
  clear e
  unfold f_X1_form
  refine S_aload_n (dc_X1_form 0 rfl) rfl ?_
  refine S_iload_n (dc_X1_form 1 rfl) rfl ?_
  refine Sx.ask (fun _ i2 => ?_)
  refine S_roI (d := k_d K - 1) (e_callV (b := a0) (As := [.int a1]) (rest := []) ok_X1_isBand rfl (Nat.le_of_ble_eq_true rfl) (dc_X1_form 2 rfl) ho q859 q861 (show e_cl[0]? = some (RX1, TX1, 37) from rfl) (e_sel.of qs7) (e_is_of i2) rfl (Nat.le_of_ble_eq_true rfl)) (by omega) (fun _ e => ct_X1_isBand (by omega) e) (fun x2 e2 => ?_)
  refine S_if_eq 17 (dc_X1_form 3 rfl) rfl (fun c5 => ?_) (fun c5 => ?_)
  · refine S_iconst_ (-1) (dc_X1_form 9 rfl) rfl ?_
    exact S_iret (dc_X1_form 10 rfl) hT rfl (e_rqI hr)
  · refine S_iload_n (dc_X1_form 4 rfl) rfl ?_
    refine S_iconst_ 0 (dc_X1_form 5 rfl) rfl ?_
    refine S_iconst_ 2 (dc_X1_form 6 rfl) rfl ?_
    refine S_roI (d := k_d K - 1) (e_callS (As := [.int a2, .int 0, .int 2]) (rest := []) ok_X1_isIn rfl (Nat.le_of_ble_eq_true rfl) (dc_X1_form 7 rfl) ho q825 q616 rfl (Nat.le_of_ble_eq_true rfl)) (by omega) (fun _ e => ct_X1_isIn (by omega) e) (fun x11 e11 => ?_)
    refine S_if_ne 19 (dc_X1_form 8 rfl) rfl (fun c14 => ?_) (fun c14 => ?_)
    · refine S_aload_n (dc_X1_form 11 rfl) rfl ?_
      refine S_aload_n (dc_X1_form 12 rfl) rfl ?_
      refine S_getA (dc_X1_form 13 rfl) ho fl_X1_63_0_6 (fun _ _ => rfl) (fun x21 e21 => ?_)
      refine S_getA (dc_X1_form 14 rfl) ho fl_X1_248_2_0 (fun _ _ => rfl) (fun x24 e24 => ?_)
      refine S_iload_n (dc_X1_form 15 rfl) rfl ?_
      refine S_aaldA4 (dc_X1_form 16 rfl) (fun x28 e28 => ?_)
      refine S_iload_n (dc_X1_form 17 rfl) rfl ?_
      refine S_rwV (d := k_d K - 1) (e_callV (b := a0) (As := [.ref x28, .int a2]) (rest := []) ok_X1_settle rfl (Nat.le_of_ble_eq_true rfl) (dc_X1_form 18 rfl) ho q903 q905 (show e_cl[0]? = some (RX1, TX1, 37) from rfl) (e_sel.of qs9) (e_is_of i2) rfl (Nat.le_of_ble_eq_true rfl)) (by omega) (fun _ e => ct_X1_settle (by omega) e) (fun h30 e30 => ?_)
      refine S_aload_n (dc_X1_form 19 rfl) rfl ?_
      refine S_iconst_ 2 (dc_X1_form 20 rfl) rfl ?_
      refine S_aload_n (dc_X1_form 21 rfl) rfl ?_
      refine S_getA (dc_X1_form 22 rfl) ho fl_X1_63_0_6 (fun _ _ => rfl) (fun x36 e36 => ?_)
      refine S_getA (dc_X1_form 23 rfl) ho fl_X1_248_2_0 (fun _ _ => rfl) (fun x39 e39 => ?_)
      refine S_iload_n (dc_X1_form 24 rfl) rfl ?_
      refine S_aaldA4 (dc_X1_form 25 rfl) (fun x43 e43 => ?_)
      refine S_getI (dc_X1_form 26 rfl) ho fl_X1_251_6_2 (fun _ _ => rfl) (fun x44 e44 => ?_)
      refine S_imul (dc_X1_form 27 rfl) ?_
      refine S_putI (dc_X1_form 28 rfl) ho fl_X1_327_0_17 (fun _ _ => rfl) (Or.inl rfl) rfl rfl (fun h48 e48 => ?_)
      refine S_aload_n (dc_X1_form 29 rfl) rfl ?_
      refine S_getA (dc_X1_form 30 rfl) ho fl_X1_96_0_14 (fun _ _ => rfl) (fun x52 e52 => ?_)
      refine S_iconst_ 0 (dc_X1_form 31 rfl) rfl ?_
      refine S_aload_n (dc_X1_form 32 rfl) rfl ?_
      refine S_getA (dc_X1_form 33 rfl) ho fl_X1_102_0_16 (fun _ _ => rfl) (fun x57 e57 => ?_)
      refine S_iconst_ 0 (dc_X1_form 34 rfl) rfl ?_
      refine S_aload_n (dc_X1_form 35 rfl) rfl ?_
      refine S_getI (dc_X1_form 36 rfl) ho fl_X1_327_0_17 (fun _ _ => rfl) (fun x62 e62 => ?_)
      refine S_copyI (dc_X1_form 37 rfl) ho q917 (by omega) (Nat.le_of_ble_eq_true rfl) (fun h65 e65 => ?_)
      refine S_aload_n (dc_X1_form 38 rfl) rfl ?_
      refine S_getI (dc_X1_form 39 rfl) ho fl_X1_327_0_17 (fun _ _ => rfl) (fun x69 e69 => ?_)
      exact S_iret (dc_X1_form 40 rfl) hT rfl (e_rqI hr)
    · refine S_iconst_ (-1) (dc_X1_form 9 rfl) rfl ?_
      exact S_iret (dc_X1_form 10 rfl) hT rfl (e_rqI hr)
abbrev cX1_formAt : ByteArray := prog_1_method_39_code
def yX1_formAt : MethodName := ⟨"PegBands", "formAt", "(I)I"⟩
def tb_X1_formAt : List (Nat × Instr × Nat) := [(0, .iload_n 1, 1), (1, .iconst 0, 1), (2, .aload_n 0, 1), (3, .getfield 327, 3), (6, .iconst 1, 1), (7, .isub, 1), (8, .invokestatic 187, 3), (11, .ifCond .eq 12, 3), (14, .aload_n 0, 1), (15, .getfield 102, 3), (18, .iload_n 1, 1), (19, .iaload, 1), (20, .goto 4, 3), (23, .iconst (-1), 1), (24, .ireturn, 1)]
theorem tk_X1_formAt : ∀ q ∈ tb_X1_formAt, decode cX1_formAt q.1 = .ok q.2 := by decide +kernel
theorem dc_X1_formAt (k : Nat) {pc n : Nat} {i : Instr} (h : tb_X1_formAt[k]? = some (pc, i, n)) : decode cX1_formAt pc = .ok (i, n) := tk_X1_formAt (pc, i, n) (List.mem_of_getElem? h)
abbrev mX1_formAt : e_M := (yX1_formAt, cX1_formAt, 2, some (.int), [])
theorem ok_X1_formAt : e_mok mX1_formAt 1 := ⟨q950, q108, by decide +kernel, fun sig h => by cases h; rfl⟩
def f_X1_formAt (h : e_H) (a0 : Nat) (a1 : Int32) : Option Int32 :=
  Option.bind (e_fI h a0 0 17) (fun x3 =>
  Option.bind (f_X1_isIn a1 0 (x3 - 1)) (fun x8 =>
  if x8 = 0 then
    some (-1)
  else
    Option.bind (e_fA h a0 0 16) (fun x15 =>
    Option.bind (e_aI h x15 0 a1) (fun x19 =>
    some x19))))
set_option maxHeartbeats 4000000 in
set_option maxRecDepth 100000 in
theorem ct_X1_formAt {l : Launch} {D : e_D} {B : Heap} {d : Nat} {h : e_H} {a0 : Nat} {a1 : Int32} {v : Int32} (hd : 2 ≤ d) (e : f_X1_formAt h a0 a1 = some v) : e_Run l D B d mX1_formAt [.ref a0, .int a1] h (.ok (some (.int v)), h) := by
  refine e_start [some (.ref a0), some (.int a1)] (by decide) rfl rfl rfl (Nat.le_of_ble_eq_true rfl) (fun K hl0 hD0 hB0 hM hd0 hr => ?_)
  subst hl0 hD0 hB0 hd0
  have ho : (k_M K).1.cls = "PegBands" := by rw [hM]; rfl
  have hT : (k_M K).2.2.2.1 = some (.int) := by rw [hM]
  refine (show Sx K cX1_formAt 0 [some (.ref a0), some (.int a1)] [] h (f_X1_formAt h a0 a1) (fun w => w = v) from ?_) _ e rfl
  clear e
  unfold f_X1_formAt
  refine S_iload_n (dc_X1_formAt 0 rfl) rfl ?_
  refine S_iconst_ 0 (dc_X1_formAt 1 rfl) rfl ?_
  refine S_aload_n (dc_X1_formAt 2 rfl) rfl ?_
  refine S_getI (dc_X1_formAt 3 rfl) ho fl_X1_327_0_17 (fun _ _ => rfl) (fun x3 e3 => ?_)
  refine S_iconst_ 1 (dc_X1_formAt 4 rfl) rfl ?_
  refine S_isub (dc_X1_formAt 5 rfl) ?_
  refine S_roI (d := k_d K - 1) (e_callS (As := [.int a1, .int 0, .int (x3 - 1)]) (rest := []) ok_X1_isIn rfl (Nat.le_of_ble_eq_true rfl) (dc_X1_formAt 6 rfl) ho q825 q616 rfl (Nat.le_of_ble_eq_true rfl)) (by omega) (fun _ e => ct_X1_isIn (by omega) e) (fun x8 e8 => ?_)
  refine S_if_eq 23 (dc_X1_formAt 7 rfl) rfl (fun c11 => ?_) (fun c11 => ?_)
  · refine S_iconst_ (-1) (dc_X1_formAt 13 rfl) rfl ?_
    exact S_iret (dc_X1_formAt 14 rfl) hT rfl (fun q => by cases q; exact hr)
  · refine S_aload_n (dc_X1_formAt 8 rfl) rfl ?_
    refine S_getA (dc_X1_formAt 9 rfl) ho fl_X1_102_0_16 (fun _ _ => rfl) (fun x15 e15 => ?_)
    refine S_iload_n (dc_X1_formAt 10 rfl) rfl ?_
    refine S_iald (dc_X1_formAt 11 rfl) (fun x19 e19 => ?_)
    refine S_goto 24 (dc_X1_formAt 12 rfl) rfl ?_
    exact S_iret (dc_X1_formAt 14 rfl) hT rfl (fun q => by cases q; exact hr)
abbrev cX1_undo : ByteArray := prog_1_method_41_code
def yX1_undo : MethodName := ⟨"PegBands", "undo", "()I"⟩
def tb_X1_undo : List (Nat × Instr × Nat) := [(0, .aload_n 0, 1), (1, .getfield 215, 3), (4, .ifCond .ne 5, 3), (7, .iconst (-1), 1), (8, .ireturn, 1), (9, .aload_n 0, 1), (10, .dup, 1), (11, .getfield 215, 3), (14, .iconst 1, 1), (15, .isub, 1), (16, .putfield 215, 3), (19, .aload_n 0, 1), (20, .getfield 107, 3), (23, .aload_n 0, 1), (24, .getfield 215, 3), (27, .aaload, 1), (28, .astore_n 1, 1), (29, .aload_n 1, 1), (30, .iconst 0, 1), (31, .aload_n 0, 1), (32, .getfield 63, 3), (35, .getfield 248, 3), (38, .iconst 0, 1), (39, .aload_n 1, 1), (40, .arraylength, 1), (41, .invokestatic 297, 3), (44, .aload_n 0, 1), (45, .getfield 63, 3), (48, .aload_n 1, 1), (49, .arraylength, 1), (50, .putfield 234, 3), (53, .aload_n 0, 1), (54, .getfield 215, 3), (57, .ireturn, 1)]
theorem tk_X1_undo : ∀ q ∈ tb_X1_undo, decode cX1_undo q.1 = .ok q.2 := by decide +kernel
theorem dc_X1_undo (k : Nat) {pc n : Nat} {i : Instr} (h : tb_X1_undo[k]? = some (pc, i, n)) : decode cX1_undo pc = .ok (i, n) := tk_X1_undo (pc, i, n) (List.mem_of_getElem? h)
abbrev mX1_undo : e_M := (yX1_undo, cX1_undo, 2, some (.int), [])
theorem ok_X1_undo : e_mok mX1_undo 0 := ⟨q954, q108, by decide +kernel, fun sig h => by cases h; rfl⟩
def f_X1_undo (h : e_H) (a0 : Nat) : Option (Int32 × e_H) :=
  Option.bind (e_fI h a0 0 19) (fun x1 =>
  if x1 = 0 then
    some ((-1), h)
  else
    Option.bind (e_fI h a0 0 19) (fun x11 =>
    Option.bind (e_gI h a0 0 19 (x11 - 1)) (fun h16 =>
    Option.bind (e_fA h16 a0 0 18) (fun x20 =>
    Option.bind (e_fI h16 a0 0 19) (fun x24 =>
    Option.bind (e_aA h16 x20 5 x24) (fun x27 =>
    Option.bind (e_fA h16 a0 0 6) (fun x32 =>
    Option.bind (e_fA h16 x32 2 0) (fun x35 =>
    Option.bind (e_len h16 x27 4) (fun l40 =>
    Option.bind (e_cpR h16 4 x27 0 x35 0 (nI l40)) (fun h41 =>
    Option.bind (e_fA h41 a0 0 6) (fun x45 =>
    Option.bind (e_len h41 x27 4) (fun l49 =>
    Option.bind (e_gI h41 x45 2 4 (nI l49)) (fun h50 =>
    Option.bind (e_fI h50 a0 0 19) (fun x54 =>
    some (x54, h50)))))))))))))))
set_option maxHeartbeats 4000000 in
set_option maxRecDepth 100000 in
theorem ct_X1_undo {l : Launch} {D : e_D} {B : Heap} {d : Nat} {h : e_H} {a0 : Nat} {v : Int32} {h1 : e_H} (hd : 1 ≤ d) (e : f_X1_undo h a0 = some (v, h1)) : e_Run l D B d mX1_undo [.ref a0] h (.ok (some (.int v)), h1) := by
  refine e_start [some (.ref a0), none] (by decide) rfl rfl rfl (Nat.le_of_ble_eq_true rfl) (fun K hl0 hD0 hB0 hM hd0 hr => ?_)
  subst hl0 hD0 hB0 hd0
  have ho : (k_M K).1.cls = "PegBands" := by rw [hM]; rfl
  have hT : (k_M K).2.2.2.1 = some (.int) := by rw [hM]
  refine (show Sx K cX1_undo 0 [some (.ref a0), none] [] h (f_X1_undo h a0) (fun w => w = (v, h1)) from ?_) _ e rfl
  clear e
  unfold f_X1_undo
  refine S_aload_n (dc_X1_undo 0 rfl) rfl ?_
  refine S_getI (dc_X1_undo 1 rfl) ho fl_X1_215_0_19 (fun _ _ => rfl) (fun x1 e1 => ?_)
  refine S_if_ne 9 (dc_X1_undo 2 rfl) rfl (fun c4 => ?_) (fun c4 => ?_)
  · refine S_aload_n (dc_X1_undo 5 rfl) rfl ?_
    refine S_dup (dc_X1_undo 6 rfl) rfl ?_
    refine S_getI (dc_X1_undo 7 rfl) ho fl_X1_215_0_19 (fun _ _ => rfl) (fun x11 e11 => ?_)
    refine S_iconst_ 1 (dc_X1_undo 8 rfl) rfl ?_
    refine S_isub (dc_X1_undo 9 rfl) ?_
    refine S_putI (dc_X1_undo 10 rfl) ho fl_X1_215_0_19 (fun _ _ => rfl) (Or.inl rfl) rfl rfl (fun h16 e16 => ?_)
    refine S_aload_n (dc_X1_undo 11 rfl) rfl ?_
    refine S_getA (dc_X1_undo 12 rfl) ho fl_X1_107_0_18 (fun _ _ => rfl) (fun x20 e20 => ?_)
    refine S_aload_n (dc_X1_undo 13 rfl) rfl ?_
    refine S_getI (dc_X1_undo 14 rfl) ho fl_X1_215_0_19 (fun _ _ => rfl) (fun x24 e24 => ?_)
    refine S_aaldA5 (dc_X1_undo 15 rfl) (fun x27 e27 => ?_)
    refine S_astore_n (L' := [some (.ref a0), some (.ref x27)]) (dc_X1_undo 16 rfl) rfl ?_
    refine S_aload_n (dc_X1_undo 17 rfl) rfl ?_
    refine S_iconst_ 0 (dc_X1_undo 18 rfl) rfl ?_
    refine S_aload_n (dc_X1_undo 19 rfl) rfl ?_
    refine S_getA (dc_X1_undo 20 rfl) ho fl_X1_63_0_6 (fun _ _ => rfl) (fun x32 e32 => ?_)
    refine S_getA (dc_X1_undo 21 rfl) ho fl_X1_248_2_0 (fun _ _ => rfl) (fun x35 e35 => ?_)
    refine S_iconst_ 0 (dc_X1_undo 22 rfl) rfl ?_
    refine S_aload_n (dc_X1_undo 23 rfl) rfl ?_
    refine S_alen (t := 4) (dc_X1_undo 24 rfl) (fun l40 e40 => ?_)
    refine S_copyR (t := 4) (dc_X1_undo 25 rfl) ho q917 (by omega) (Nat.le_of_ble_eq_true rfl) rfl (fun _ _ _ => rfl) (fun h41 e41 => ?_)
    refine S_aload_n (dc_X1_undo 26 rfl) rfl ?_
    refine S_getA (dc_X1_undo 27 rfl) ho fl_X1_63_0_6 (fun _ _ => rfl) (fun x45 e45 => ?_)
    refine S_aload_n (dc_X1_undo 28 rfl) rfl ?_
    refine S_alen (t := 4) (dc_X1_undo 29 rfl) (fun l49 e49 => ?_)
    refine S_putI (dc_X1_undo 30 rfl) ho fl_X1_234_2_4 (fun _ _ => rfl) (Or.inl rfl) rfl rfl (fun h50 e50 => ?_)
    refine S_aload_n (dc_X1_undo 31 rfl) rfl ?_
    refine S_getI (dc_X1_undo 32 rfl) ho fl_X1_215_0_19 (fun _ _ => rfl) (fun x54 e54 => ?_)
    exact S_iret (dc_X1_undo 33 rfl) hT rfl (e_rqI hr)
  · refine S_iconst_ (-1) (dc_X1_undo 3 rfl) rfl ?_
    exact S_iret (dc_X1_undo 4 rfl) hT rfl (e_rqI hr)
abbrev cX1_keep : ByteArray := prog_1_method_40_code
def yX1_keep : MethodName := ⟨"PegBands", "keep", "()V"⟩
def tb_X1_keep : List (Nat × Instr × Nat) := [(0, .aload_n 0, 1), (1, .getfield 63, 3), (4, .getfield 234, 3), (7, .anewarray 114, 3), (10, .astore_n 1, 1), (11, .aload_n 0, 1), (12, .getfield 63, 3), (15, .getfield 248, 3), (18, .iconst 0, 1), (19, .aload_n 1, 1), (20, .iconst 0, 1), (21, .aload_n 0, 1), (22, .getfield 63, 3), (25, .getfield 234, 3), (28, .invokestatic 297, 3), (31, .aload_n 0, 1), (32, .getfield 215, 3), (35, .bipush 8, 2), (37, .if_icmp .ne 28, 3), (40, .aload_n 0, 1), (41, .getfield 107, 3), (44, .iconst 1, 1), (45, .aload_n 0, 1), (46, .getfield 107, 3), (49, .iconst 0, 1), (50, .bipush 7, 2), (52, .invokestatic 297, 3), (55, .aload_n 0, 1), (56, .dup, 1), (57, .getfield 215, 3), (60, .iconst 1, 1), (61, .isub, 1), (62, .putfield 215, 3), (65, .aload_n 0, 1), (66, .getfield 107, 3), (69, .aload_n 0, 1), (70, .getfield 215, 3), (73, .aload_n 1, 1), (74, .aastore, 1), (75, .aload_n 0, 1), (76, .dup, 1), (77, .getfield 215, 3), (80, .iconst 1, 1), (81, .iadd, 1), (82, .putfield 215, 3), (85, .return_, 1)]
theorem tk_X1_keep : ∀ q ∈ tb_X1_keep, decode cX1_keep q.1 = .ok q.2 := by decide +kernel
theorem dc_X1_keep (k : Nat) {pc n : Nat} {i : Instr} (h : tb_X1_keep[k]? = some (pc, i, n)) : decode cX1_keep pc = .ok (i, n) := tk_X1_keep (pc, i, n) (List.mem_of_getElem? h)
abbrev mX1_keep : e_M := (yX1_keep, cX1_keep, 2, none, [])
theorem ok_X1_keep : e_mok mX1_keep 0 := ⟨q975, q108, by decide +kernel, fun sig h => by cases h; rfl⟩
def f_X1_keep (h : e_H) (a0 : Nat) : Option e_H :=
  Option.bind (e_fA h a0 0 6) (fun x1 =>
  Option.bind (e_fI h x1 2 4) (fun x4 =>
  Option.bind (e_nat x4) (fun l7 => e_mkb h (.inr (4, l7)) l7 (fun x7 h7 =>
  Option.bind (e_fA h7 a0 0 6) (fun x12 =>
  Option.bind (e_fA h7 x12 2 0) (fun x15 =>
  Option.bind (e_fA h7 a0 0 6) (fun x22 =>
  Option.bind (e_fI h7 x22 2 4) (fun x25 =>
  Option.bind (e_cpR h7 4 x15 0 x7 0 x25) (fun h28 =>
  Option.bind (e_fI h28 a0 0 19) (fun x32 =>
  Option.bind (
      if x32 = 8 then
        Option.bind (e_fA h28 a0 0 18) (fun x41 =>
        Option.bind (e_fA h28 a0 0 18) (fun x46 =>
        Option.bind (e_cpR h28 5 x41 1 x46 0 7) (fun h52 =>
        Option.bind (e_fI h52 a0 0 19) (fun x57 =>
        Option.bind (e_gI h52 a0 0 19 (x57 - 1)) (fun h62 =>
        some h62)))))
      else
        some h28
    : Option (e_H)) (fun h65_1 =>
  Option.bind (e_fA h65_1 a0 0 18) (fun x66 =>
  Option.bind (e_fI h65_1 a0 0 19) (fun x70 =>
  Option.bind (e_wR h65_1 x66 5 x70 (some x7)) (fun h74 =>
  Option.bind (e_fI h74 a0 0 19) (fun x77 =>
  Option.bind (e_gI h74 a0 0 19 (x77 + 1)) (fun h82 =>
  some h82))))))))))))))))
set_option maxHeartbeats 4000000 in
set_option maxRecDepth 100000 in
theorem ct_X1_keep {l : Launch} {D : e_D} {B : Heap} {d : Nat} {h : e_H} {a0 : Nat} {h1 : e_H} (hd : 1 ≤ d) (e : f_X1_keep h a0 = some h1) : e_Run l D B d mX1_keep [.ref a0] h (.ok none, h1) := by
  refine e_start [some (.ref a0), none] (by decide) rfl rfl rfl (Nat.le_of_ble_eq_true rfl) (fun K hl0 hD0 hB0 hM hd0 hr => ?_)
  subst hl0 hD0 hB0 hd0
  have ho : (k_M K).1.cls = "PegBands" := by rw [hM]; rfl
  have hT : (k_M K).2.2.2.1 = none := by rw [hM]
  refine (show Sx K cX1_keep 0 [some (.ref a0), none] [] h (f_X1_keep h a0) (fun w => w = h1) from ?_) _ e rfl
  clear e
  unfold f_X1_keep
  refine S_aload_n (dc_X1_keep 0 rfl) rfl ?_
  refine S_getA (dc_X1_keep 1 rfl) ho fl_X1_63_0_6 (fun _ _ => rfl) (fun x1 e1 => ?_)
  refine S_getI (dc_X1_keep 2 rfl) ho fl_X1_234_2_4 (fun _ _ => rfl) (fun x4 e4 => ?_)
  refine S_anewOB (t := 4) (dc_X1_keep 3 rfl) ho (by decide) rfl q386 q238 (fun l7 x7 h7 v7 u7 w7 => ?_)
  refine S_astore_n (L' := [some (.ref a0), some (.ref x7)]) (dc_X1_keep 4 rfl) rfl ?_
  refine S_aload_n (dc_X1_keep 5 rfl) rfl ?_
  refine S_getA (dc_X1_keep 6 rfl) ho fl_X1_63_0_6 (fun _ _ => rfl) (fun x12 e12 => ?_)
  refine S_getA (dc_X1_keep 7 rfl) ho fl_X1_248_2_0 (fun _ _ => rfl) (fun x15 e15 => ?_)
  refine S_iconst_ 0 (dc_X1_keep 8 rfl) rfl ?_
  refine S_aload_n (dc_X1_keep 9 rfl) rfl ?_
  refine S_iconst_ 0 (dc_X1_keep 10 rfl) rfl ?_
  refine S_aload_n (dc_X1_keep 11 rfl) rfl ?_
  refine S_getA (dc_X1_keep 12 rfl) ho fl_X1_63_0_6 (fun _ _ => rfl) (fun x22 e22 => ?_)
  refine S_getI (dc_X1_keep 13 rfl) ho fl_X1_234_2_4 (fun _ _ => rfl) (fun x25 e25 => ?_)
  refine S_copyR (t := 4) (dc_X1_keep 14 rfl) ho q917 (by omega) (Nat.le_of_ble_eq_true rfl) rfl (fun _ _ _ => rfl) (fun h28 e28 => ?_)
  refine S_aload_n (dc_X1_keep 15 rfl) rfl ?_
  refine S_getI (dc_X1_keep 16 rfl) ho fl_X1_215_0_19 (fun _ _ => rfl) (fun x32 e32 => ?_)
  refine S_bipush_ 8 (dc_X1_keep 17 rfl) rfl ?_
  refine Sx.regK1 (pc2 := 65) (L2 := fun (h65_1 : e_H) => [some (.ref a0), some (.ref x7)]) (st2 := fun (h65_1 : e_H) => []) (h2 := fun (h65_1 : e_H) => h65_1) ?_ (fun Q1 hK1 => ?_)
  · intro h65_1
    show Sx K cX1_keep 65 [some (.ref a0), some (.ref x7)] [] h65_1 _ _
    refine S_aload_n (dc_X1_keep 33 rfl) rfl ?_
    refine S_getA (dc_X1_keep 34 rfl) ho fl_X1_107_0_18 (fun _ _ => rfl) (fun x66 e66 => ?_)
    refine S_aload_n (dc_X1_keep 35 rfl) rfl ?_
    refine S_getI (dc_X1_keep 36 rfl) ho fl_X1_215_0_19 (fun _ _ => rfl) (fun x70 e70 => ?_)
    refine S_aload_n (dc_X1_keep 37 rfl) rfl ?_
    refine S_aastV (t := 5) (dc_X1_keep 38 rfl) rfl (fun _ _ _ => rfl) (fun h74 e74 => ?_)
    refine S_aload_n (dc_X1_keep 39 rfl) rfl ?_
    refine S_dup (dc_X1_keep 40 rfl) rfl ?_
    refine S_getI (dc_X1_keep 41 rfl) ho fl_X1_215_0_19 (fun _ _ => rfl) (fun x77 e77 => ?_)
    refine S_iconst_ 1 (dc_X1_keep 42 rfl) rfl ?_
    refine S_iadd (dc_X1_keep 43 rfl) ?_
    refine S_putI (dc_X1_keep 44 rfl) ho fl_X1_215_0_19 (fun _ _ => rfl) (Or.inl rfl) rfl rfl (fun h82 e82 => ?_)
    exact S_vret (dc_X1_keep 45 rfl) hT (fun q => by cases q; exact hr)
  · have hK1 : ∀ (h65_1 : e_H), Sx K cX1_keep 65 [some (.ref a0), some (.ref x7)] [] h65_1 (some h65_1) Q1 := hK1
    refine S_icmp_ne 65 (dc_X1_keep 18 rfl) rfl (fun c37 => ?_) (fun c37 => ?_)
    · exact hK1 h28
    · refine S_aload_n (dc_X1_keep 19 rfl) rfl ?_
      refine S_getA (dc_X1_keep 20 rfl) ho fl_X1_107_0_18 (fun _ _ => rfl) (fun x41 e41 => ?_)
      refine S_iconst_ 1 (dc_X1_keep 21 rfl) rfl ?_
      refine S_aload_n (dc_X1_keep 22 rfl) rfl ?_
      refine S_getA (dc_X1_keep 23 rfl) ho fl_X1_107_0_18 (fun _ _ => rfl) (fun x46 e46 => ?_)
      refine S_iconst_ 0 (dc_X1_keep 24 rfl) rfl ?_
      refine S_bipush_ 7 (dc_X1_keep 25 rfl) rfl ?_
      refine S_copyR (t := 5) (dc_X1_keep 26 rfl) ho q917 (by omega) (Nat.le_of_ble_eq_true rfl) rfl (fun _ _ _ => rfl) (fun h52 e52 => ?_)
      refine S_aload_n (dc_X1_keep 27 rfl) rfl ?_
      refine S_dup (dc_X1_keep 28 rfl) rfl ?_
      refine S_getI (dc_X1_keep 29 rfl) ho fl_X1_215_0_19 (fun _ _ => rfl) (fun x57 e57 => ?_)
      refine S_iconst_ 1 (dc_X1_keep 30 rfl) rfl ?_
      refine S_isub (dc_X1_keep 31 rfl) ?_
      refine S_putI (dc_X1_keep 32 rfl) ho fl_X1_215_0_19 (fun _ _ => rfl) (Or.inl rfl) rfl rfl (fun h62 e62 => ?_)
      exact hK1 h62
abbrev cX1_changes : ByteArray := prog_1_method_42_code
def yX1_changes : MethodName := ⟨"PegBands", "changes", "(ILPegBands$Band;)I"⟩
def tb_X1_changes : List (Nat × Instr × Nat) := [(0, .aload_n 0, 1), (1, .getfield 63, 3), (4, .aload_n 2, 1), (5, .iload_n 1, 1), (6, .invokevirtual 330, 3), (9, .istore_n 3, 1), (10, .iload_n 3, 1), (11, .ifCond .le 5, 3), (14, .iload_n 3, 1), (15, .ireturn, 1), (16, .aload_n 0, 1), (17, .invokevirtual 333, 3), (20, .aload_n 0, 1), (21, .getfield 63, 3), (24, .getfield 248, 3), (27, .iload_n 1, 1), (28, .aload_n 2, 1), (29, .aastore, 1), (30, .iconst 0, 1), (31, .ireturn, 1)]
theorem tk_X1_changes : ∀ q ∈ tb_X1_changes, decode cX1_changes q.1 = .ok q.2 := by decide +kernel
theorem dc_X1_changes (k : Nat) {pc n : Nat} {i : Instr} (h : tb_X1_changes[k]? = some (pc, i, n)) : decode cX1_changes pc = .ok (i, n) := tk_X1_changes (pc, i, n) (List.mem_of_getElem? h)
abbrev mX1_changes : e_M := (yX1_changes, cX1_changes, 4, some (.int), [])
theorem ok_X1_changes : e_mok mX1_changes 2 := ⟨q970, q108, by decide +kernel, fun sig h => by cases h; rfl⟩
def f_X1_changes (F : Nat) (h : e_H) (a0 : Nat) (a1 : Int32) (a2 : Nat) : Option (Int32 × e_H) :=
  Option.bind (e_fA h a0 0 6) (fun x1 =>
  Option.bind (e_is h x1 2) (fun _ =>
  Option.bind (f_X3_why F h x1 a2 a1) (fun x6 =>
  if x6 ≤ 0 then
    Option.bind (f_X1_keep h a0) (fun h17 =>
    Option.bind (e_fA h17 a0 0 6) (fun x21 =>
    Option.bind (e_fA h17 x21 2 0) (fun x24 =>
    Option.bind (e_wR h17 x24 4 a1 (some a2)) (fun h29 =>
    some (0, h29)))))
  else
    some (x6, h))))
set_option maxHeartbeats 4000000 in
set_option maxRecDepth 100000 in
theorem ct_X1_changes {l : Launch} {D : e_D} {B : Heap} {F : Nat} {d : Nat} {h : e_H} {a0 : Nat} {a1 : Int32} {a2 : Nat} {v : Int32} {h1 : e_H} (hd : 8 ≤ d) (e : f_X1_changes F h a0 a1 a2 = some (v, h1)) : e_Run l D B d mX1_changes [.ref a0, .int a1, .ref a2] h (.ok (some (.int v)), h1) := by
  refine e_start [some (.ref a0), some (.int a1), some (.ref a2), none] (by decide) rfl rfl rfl (Nat.le_of_ble_eq_true rfl) (fun K hl0 hD0 hB0 hM hd0 hr => ?_)
  subst hl0 hD0 hB0 hd0
  have ho : (k_M K).1.cls = "PegBands" := by rw [hM]; rfl
  have hT : (k_M K).2.2.2.1 = some (.int) := by rw [hM]
  refine (show Sx K cX1_changes 0 [some (.ref a0), some (.int a1), some (.ref a2), none] [] h (f_X1_changes F h a0 a1 a2) (fun w => w = (v, h1)) from ?_) _ e rfl
  clear e
  unfold f_X1_changes
  refine S_aload_n (dc_X1_changes 0 rfl) rfl ?_
  refine S_getA (dc_X1_changes 1 rfl) ho fl_X1_63_0_6 (fun _ _ => rfl) (fun x1 e1 => ?_)
  refine S_aload_n (dc_X1_changes 2 rfl) rfl ?_
  refine S_iload_n (dc_X1_changes 3 rfl) rfl ?_
  refine Sx.ask (fun _ i6 => ?_)
  refine S_roI (d := k_d K - 1) (e_callV (b := x1) (As := [.ref a2, .int a1]) (rest := []) ok_X3_why rfl (Nat.le_of_ble_eq_true rfl) (dc_X1_changes 4 rfl) ho q971 q774 (show e_cl[2]? = some (RX3, TX3, 7) from rfl) (e_sel.of q775) (e_is_of i6) rfl (Nat.le_of_ble_eq_true rfl)) (by omega) (fun _ e => ct_X3_why (by omega) e) (fun x6 e6 => ?_)
  refine S_istore_n (L' := [some (.ref a0), some (.int a1), some (.ref a2), some (.int x6)]) (dc_X1_changes 5 rfl) rfl ?_
  refine S_iload_n (dc_X1_changes 6 rfl) rfl ?_
  refine S_if_le 16 (dc_X1_changes 7 rfl) rfl (fun c11 => ?_) (fun c11 => ?_)
  · refine S_aload_n (dc_X1_changes 10 rfl) rfl ?_
    refine S_rwV (d := k_d K - 1) (e_callV (b := a0) (As := []) (rest := []) ok_X1_keep rfl (Nat.le_of_ble_eq_true rfl) (dc_X1_changes 11 rfl) ho q972 q974 (show e_cl[0]? = some (RX1, TX1, 37) from rfl) (e_sel.of qs11) (e_fA_of e1).1 rfl (Nat.le_of_ble_eq_true rfl)) (by omega) (fun _ e => ct_X1_keep (by omega) e) (fun h17 e17 => ?_)
    refine S_aload_n (dc_X1_changes 12 rfl) rfl ?_
    refine S_getA (dc_X1_changes 13 rfl) ho fl_X1_63_0_6 (fun _ _ => rfl) (fun x21 e21 => ?_)
    refine S_getA (dc_X1_changes 14 rfl) ho fl_X1_248_2_0 (fun _ _ => rfl) (fun x24 e24 => ?_)
    refine S_iload_n (dc_X1_changes 15 rfl) rfl ?_
    refine S_aload_n (dc_X1_changes 16 rfl) rfl ?_
    refine S_aastV (t := 4) (dc_X1_changes 17 rfl) rfl (fun _ _ _ => rfl) (fun h29 e29 => ?_)
    refine S_iconst_ 0 (dc_X1_changes 18 rfl) rfl ?_
    exact S_iret (dc_X1_changes 19 rfl) hT rfl (e_rqI hr)
  · refine S_iload_n (dc_X1_changes 8 rfl) rfl ?_
    exact S_iret (dc_X1_changes 9 rfl) hT rfl (e_rqI hr)
