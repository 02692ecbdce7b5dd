/-! printed by gen/gen.py -/
set_option maxRecDepth 100000
abbrev cX11_init : ByteArray := prog_9_method_1_code
def yX11_init : MethodName := ⟨"PegBands$Cond", "<init>", "()V"⟩
def tb_X11_init : List (Nat × Instr × Nat) := [(0, .aload_n 0, 1), (1, .invokespecial 1, 3), (4, .return_, 1)]
theorem tk_X11_init : ∀ q ∈ tb_X11_init, decode cX11_init q.1 = .ok q.2 := by decide +kernel
theorem dc_X11_init (k : Nat) {pc n : Nat} {i : Instr} (h : tb_X11_init[k]? = some (pc, i, n)) : decode cX11_init pc = .ok (i, n) := tk_X11_init (pc, i, n) (List.mem_of_getElem? h)
abbrev mX11_init : e_M := (yX11_init, cX11_init, 1, none, [])
theorem ok_X11_init : e_mok mX11_init 0 := ⟨q1267, q128, by decide +kernel, fun sig h => by cases h; rfl⟩
def f_X11_init (h : e_H) (a0 : Nat) : Option e_H :=
  some h
set_option maxHeartbeats 4000000 in
set_option maxRecDepth 100000 in
theorem ct_X11_init {l : Launch} {D : e_D} {B : Heap} {d : Nat} {h : e_H} {a0 : Nat} {h1 : e_H} (hd : 1 ≤ d) (e : f_X11_init h a0 = some h1) : e_Run l D B d mX11_init [.ref a0] h (.ok none, h1) := by
  refine e_start [some (.ref a0)] (by decide) rfl rfl rfl (Nat.le_of_ble_eq_true rfl) (fun K hl0 hD0 hB0 hM hd0 hr => ?_)
  subst hl0 hD0 hB0 hd0
  have ho : (k_M K).1.cls = "PegBands$Cond" := by rw [hM]; rfl
  have hT : (k_M K).2.2.2.1 = none := by rw [hM]
  refine (show Sx K cX11_init 0 [some (.ref a0)] [] h (f_X11_init h a0) (fun w => w = h1) from ?_) _ e rfl
  clear e
  unfold f_X11_init
  refine S_aload_n (dc_X11_init 0 rfl) rfl ?_
  refine S_objInit (dc_X11_init 1 rfl) ho q1268 (by omega) (Nat.le_of_ble_eq_true rfl) ?_
  exact S_vret (dc_X11_init 2 rfl) hT (fun q => by cases q; exact hr)
abbrev cX12_init : ByteArray := prog_14_method_1_code
def yX12_init : MethodName := ⟨"PegBands$Not", "<init>", "(LPegBands$Cond;)V"⟩
def tb_X12_init : List (Nat × Instr × Nat) := [(0, .aload_n 0, 1), (1, .invokespecial 1, 3), (4, .aload_n 0, 1), (5, .aload_n 1, 1), (6, .putfield 7, 3), (9, .return_, 1)]
theorem tk_X12_init : ∀ q ∈ tb_X12_init, decode cX12_init q.1 = .ok q.2 := by decide +kernel
theorem dc_X12_init (k : Nat) {pc n : Nat} {i : Instr} (h : tb_X12_init[k]? = some (pc, i, n)) : decode cX12_init pc = .ok (i, n) := tk_X12_init (pc, i, n) (List.mem_of_getElem? h)
abbrev mX12_init : e_M := (yX12_init, cX12_init, 2, none, [])
theorem ok_X12_init : e_mok mX12_init 1 := ⟨q1264, q129, by decide +kernel, fun sig h => by cases h; rfl⟩
theorem fl_X12_7_9_0 : e_FL "PegBands$Not" 7 9 0 := ⟨_, rfl, by decide, Or.inl q1269⟩
def f_X12_init (h : e_H) (a0 : Nat) (a1 : Nat) : Option e_H :=
  Option.bind (f_X11_init h a0) (fun h1 =>
  Option.bind (e_gR h1 a0 9 0 (some a1)) (fun h6 =>
  some h6))
set_option maxHeartbeats 4000000 in
set_option maxRecDepth 100000 in
theorem ct_X12_init {l : Launch} {D : e_D} {B : Heap} {d : Nat} {h : e_H} {a0 : Nat} {a1 : Nat} {h1 : e_H} (hd : 2 ≤ d) (e : f_X12_init h a0 a1 = some h1) : e_Run l D B d mX12_init [.ref a0, .ref a1] h (.ok none, h1) := by
  refine e_start [some (.ref a0), some (.ref a1)] (by decide) rfl rfl rfl (Nat.le_of_ble_eq_true rfl) (fun K hl0 hD0 hB0 hM hd0 hr => ?_)
  subst hl0 hD0 hB0 hd0
  have ho : (k_M K).1.cls = "PegBands$Not" := by rw [hM]; rfl
  have hT : (k_M K).2.2.2.1 = none := by rw [hM]
  refine (show Sx K cX12_init 0 [some (.ref a0), some (.ref a1)] [] h (f_X12_init h a0 a1) (fun w => w = h1) from ?_) _ e rfl
  clear e
  unfold f_X12_init
  refine S_aload_n (dc_X12_init 0 rfl) rfl ?_
  refine S_rwV (d := k_d K - 1) (e_callIN (b := a0) (As := []) (rest := []) ok_X11_init rfl rfl rfl (Nat.le_of_ble_eq_true rfl) (dc_X12_init 1 rfl) ho q1265 q1266 rfl (Nat.le_of_ble_eq_true rfl)) (by omega) (fun _ e => ct_X11_init (by omega) e) (fun h1 e1 => ?_)
  refine S_aload_n (dc_X12_init 2 rfl) rfl ?_
  refine S_aload_n (dc_X12_init 3 rfl) rfl ?_
  refine S_putR (v := (some a1)) (dc_X12_init 4 rfl) ho fl_X12_7_9_0 (fun _ _ => rfl) (Or.inr ⟨rfl, by rw [hM]; rfl, rfl⟩) rfl (fun h6 e6 => ?_)
  exact S_vret (dc_X12_init 5 rfl) hT (fun q => by cases q; exact hr)
abbrev cX12_is : ByteArray := prog_14_method_2_code
def yX12_is : MethodName := ⟨"PegBands$Not", "is", "(LPegBands;I)Z"⟩
def tb_X12_is : List (Nat × Instr × Nat) := [(0, .aload_n 0, 1), (1, .getfield 7, 3), (4, .aload_n 1, 1), (5, .iload_n 2, 1), (6, .invokevirtual 13, 3), (9, .ifCond .ne 7, 3), (12, .iconst 1, 1), (13, .goto 4, 3), (16, .iconst 0, 1), (17, .ireturn, 1)]
theorem tk_X12_is : ∀ q ∈ tb_X12_is, decode cX12_is q.1 = .ok q.2 := by decide +kernel
theorem dc_X12_is (k : Nat) {pc n : Nat} {i : Instr} (h : tb_X12_is[k]? = some (pc, i, n)) : decode cX12_is pc = .ok (i, n) := tk_X12_is (pc, i, n) (List.mem_of_getElem? h)
abbrev mX12_is : e_M := (yX12_is, cX12_is, 3, some (.boolean), [])
theorem ok_X12_is : e_mok mX12_is 2 := ⟨q1373, q129, by decide +kernel, fun sig h => by cases h; rfl⟩
def f_X12_is (F : Nat) (S : e_H → Nat → Nat → Int32 → Option (Int32 × e_H)) (h : e_H) (a0 : Nat) (a1 : Nat) (a2 : Int32) : Option (Int32 × e_H) :=
  Option.bind (e_fA h a0 9 0) (fun x1 =>
  e_b2 (S h x1 a1 a2) (fun x6 h6 =>
  if x6 = 0 then
    some (1, h6)
  else
    some (0, h6)))
set_option maxHeartbeats 4000000 in
set_option maxRecDepth 100000 in
theorem ct_X12_is {l : Launch} {D : e_D} {B : Heap} {F : Nat} {S : e_H → Nat → Nat → Int32 → Option (Int32 × e_H)} {dS : Nat} {d : Nat} {h : e_H} {a0 : Nat} {a1 : Nat} {a2 : Int32} {v : Int32} {h1 : e_H} (hS : ∀ {h : e_H} {a0 a1 : Nat} {a2 : Int32} {v : Int32} {h1 : e_H}, S h a0 a1 a2 = some (v, h1) → e_Disp l D B dS h a0 a1 a2 v h1) (hd : 1 ≤ d) (hd2 : dS + 1 ≤ d) (e : f_X12_is F S h a0 a1 a2 = some (v, h1)) : e_Run l D B d mX12_is [.ref a0, .ref a1, .int a2] h (.ok (some (.int v)), h1) := by
  refine e_start [some (.ref a0), some (.ref a1), some (.int a2)] (by decide) rfl rfl rfl (Nat.le_of_ble_eq_true rfl) (fun K hl0 hD0 hB0 hM hd0 hr => ?_)
  subst hl0 hD0 hB0 hd0
  have ho : (k_M K).1.cls = "PegBands$Not" := by rw [hM]; rfl
  have hT : (k_M K).2.2.2.1 = some (.boolean) := by rw [hM]
  refine (show Sx K cX12_is 0 [some (.ref a0), some (.ref a1), some (.int a2)] [] h (f_X12_is F S h a0 a1 a2) (fun w => w = (v, h1)) from ?_) _ e rfl
  clear e
  unfold f_X12_is
  refine S_aload_n (dc_X12_is 0 rfl) rfl ?_
  refine S_getA (dc_X12_is 1 rfl) ho fl_X12_7_9_0 (fun _ _ => rfl) (fun x1 e1 => ?_)
  refine S_aload_n (dc_X12_is 2 rfl) rfl ?_
  refine S_iload_n (dc_X12_is 3 rfl) rfl ?_
  refine S_disp (rest := []) (d := dS) (dc_X12_is 4 rfl) ho q1374 (by omega) (Nat.le_of_ble_eq_true rfl) (fun e => hS e) (fun x6 h6 e6 => ?_)
  refine S_if_ne 16 (dc_X12_is 5 rfl) rfl (fun c9 => ?_) (fun c9 => ?_)
  · refine S_iconst_ 0 (dc_X12_is 8 rfl) rfl ?_
    exact S_iret (dc_X12_is 9 rfl) hT rfl (e_rqI hr)
  · refine S_iconst_ 1 (dc_X12_is 6 rfl) rfl ?_
    refine S_goto 17 (dc_X12_is 7 rfl) rfl ?_
    exact S_iret (dc_X12_is 9 rfl) hT rfl (e_rqI hr)
abbrev cX4_init : ByteArray := prog_7_method_1_code
def yX4_init : MethodName := ⟨"PegBands$Calls", "<init>", "()V"⟩
def tb_X4_init : List (Nat × Instr × Nat) := [(0, .aload_n 0, 1), (1, .invokespecial 3, 3), (4, .aload_n 0, 1), (5, .bipush 8, 2), (7, .newarray .int, 2), (9, .putfield 9, 3), (12, .aload_n 0, 1), (13, .bipush 8, 2), (15, .newarray .int, 2), (17, .putfield 15, 3), (20, .return_, 1)]
theorem tk_X4_init : ∀ q ∈ tb_X4_init, decode cX4_init q.1 = .ok q.2 := by decide +kernel
theorem dc_X4_init (k : Nat) {pc n : Nat} {i : Instr} (h : tb_X4_init[k]? = some (pc, i, n)) : decode cX4_init pc = .ok (i, n) := tk_X4_init (pc, i, n) (List.mem_of_getElem? h)
abbrev mX4_init : e_M := (yX4_init, cX4_init, 1, none, [])
theorem ok_X4_init : e_mok mX4_init 0 := ⟨q287, q113, by decide +kernel, fun sig h => by cases h; rfl⟩
theorem fl_X4_9_3_0 : e_FL "PegBands$Calls" 9 3 0 := ⟨_, rfl, by decide, Or.inl q289⟩
theorem fl_X4_15_3_1 : e_FL "PegBands$Calls" 15 3 1 := ⟨_, rfl, by decide, Or.inl q291⟩
def f_X4_init (h : e_H) (a0 : Nat) : Option e_H :=
  Option.bind (e_nat 8) (fun l7 => e_mkb h (.inr (0, l7)) l7 (fun x7 h7 =>
  Option.bind (e_gR h7 a0 3 0 (some x7)) (fun h9 =>
  Option.bind (e_nat 8) (fun l15 => e_mkb h9 (.inr (0, l15)) l15 (fun x15 h15 =>
  Option.bind (e_gR h15 a0 3 1 (some x15)) (fun h17 =>
  some h17))))))
set_option maxHeartbeats 4000000 in
set_option maxRecDepth 100000 in
theorem ct_X4_init {l : Launch} {D : e_D} {B : Heap} {d : Nat} {h : e_H} {a0 : Nat} {h1 : e_H} (hd : 1 ≤ d) (e : f_X4_init h a0 = some h1) : e_Run l D B d mX4_init [.ref a0] h (.ok none, h1) := by
  refine e_start [some (.ref a0)] (by decide) rfl rfl rfl (Nat.le_of_ble_eq_true rfl) (fun K hl0 hD0 hB0 hM hd0 hr => ?_)
  subst hl0 hD0 hB0 hd0
  have ho : (k_M K).1.cls = "PegBands$Calls" := by rw [hM]; rfl
  have hT : (k_M K).2.2.2.1 = none := by rw [hM]
  refine (show Sx K cX4_init 0 [some (.ref a0)] [] h (f_X4_init h a0) (fun w => w = h1) from ?_) _ e rfl
  clear e
  unfold f_X4_init
  refine S_aload_n (dc_X4_init 0 rfl) rfl ?_
  refine S_objInit (dc_X4_init 1 rfl) ho q288 (by omega) (Nat.le_of_ble_eq_true rfl) ?_
  refine S_aload_n (dc_X4_init 2 rfl) rfl ?_
  refine S_bipush_ 8 (dc_X4_init 3 rfl) rfl ?_
  refine S_newaB (t := 0) (dc_X4_init 4 rfl) (by decide) rfl q311 (fun l7 x7 h7 v7 u7 w7 => ?_)
  refine S_putR (v := (some x7)) (dc_X4_init 5 rfl) ho fl_X4_9_3_0 (fun _ _ => rfl) (Or.inr ⟨rfl, by rw [hM]; rfl, rfl⟩) rfl (fun h9 e9 => ?_)
  refine S_aload_n (dc_X4_init 6 rfl) rfl ?_
  refine S_bipush_ 8 (dc_X4_init 7 rfl) rfl ?_
  refine S_newaB (t := 0) (dc_X4_init 8 rfl) (by decide) rfl q311 (fun l15 x15 h15 v15 u15 w15 => ?_)
  refine S_putR (v := (some x15)) (dc_X4_init 9 rfl) ho fl_X4_15_3_1 (fun _ _ => rfl) (Or.inr ⟨rfl, by rw [hM]; rfl, rfl⟩) rfl (fun h17 e17 => ?_)
  exact S_vret (dc_X4_init 10 rfl) hT (fun q => by cases q; exact hr)
abbrev cX17_init : ByteArray := prog_12_method_1_code
def yX17_init : MethodName := ⟨"PegBands$Kept", "<init>", "()V"⟩
def tb_X17_init : List (Nat × Instr × Nat) := [(0, .aload_n 0, 1), (1, .invokespecial 3, 3), (4, .aload_n 0, 1), (5, .bipush 8, 2), (7, .anewarray 9, 3), (10, .putfield 11, 3), (13, .aload_n 0, 1), (14, .new 17, 3), (17, .dup, 1), (18, .invokespecial 19, 3), (21, .putfield 20, 3), (24, .aload_n 0, 1), (25, .bipush 9, 2), (27, .newarray .int, 2), (29, .putfield 24, 3), (32, .aload_n 0, 1), (33, .bipush 9, 2), (35, .newarray .int, 2), (37, .putfield 28, 3), (40, .return_, 1)]
theorem tk_X17_init : ∀ q ∈ tb_X17_init, decode cX17_init q.1 = .ok q.2 := by decide +kernel
theorem dc_X17_init (k : Nat) {pc n : Nat} {i : Instr} (h : tb_X17_init[k]? = some (pc, i, n)) : decode cX17_init pc = .ok (i, n) := tk_X17_init (pc, i, n) (List.mem_of_getElem? h)
abbrev mX17_init : e_M := (yX17_init, cX17_init, 1, none, [])
theorem ok_X17_init : e_mok mX17_init 0 := ⟨q1386, q134, by decide +kernel, fun sig h => by cases h; rfl⟩
theorem fl_X17_11_14_1 : e_FL "PegBands$Kept" 11 14 1 := ⟨_, rfl, by decide, Or.inl q1392⟩
theorem fl_X17_20_14_2 : e_FL "PegBands$Kept" 20 14 2 := ⟨_, rfl, by decide, Or.inl q1394⟩
theorem fl_X17_24_14_3 : e_FL "PegBands$Kept" 24 14 3 := ⟨_, rfl, by decide, Or.inl q1396⟩
theorem fl_X17_28_14_4 : e_FL "PegBands$Kept" 28 14 4 := ⟨_, rfl, by decide, Or.inl q1398⟩
def f_X17_init (h : e_H) (a0 : Nat) : Option e_H :=
  Option.bind (e_nat 8) (fun l7 => e_mkb h (.inr (4, l7)) l7 (fun x7 h7 =>
  Option.bind (e_gR h7 a0 14 1 (some x7)) (fun h10 =>
  e_mkb h10 (.inl 3) 5 (fun x14 h14 =>
  Option.bind (f_X4_init h14 x14) (fun h18 =>
  Option.bind (e_gR h18 a0 14 2 (some x14)) (fun h21 =>
  Option.bind (e_nat 9) (fun l27 => e_mkb h21 (.inr (0, l27)) l27 (fun x27 h27 =>
  Option.bind (e_gR h27 a0 14 3 (some x27)) (fun h29 =>
  Option.bind (e_nat 9) (fun l35 => e_mkb h29 (.inr (0, l35)) l35 (fun x35 h35 =>
  Option.bind (e_gR h35 a0 14 4 (some x35)) (fun h37 =>
  some h37))))))))))))
set_option maxHeartbeats 4000000 in
set_option maxRecDepth 100000 in
theorem ct_X17_init {l : Launch} {D : e_D} {B : Heap} {d : Nat} {h : e_H} {a0 : Nat} {h1 : e_H} (hd : 2 ≤ d) (e : f_X17_init h a0 = some h1) : e_Run l D B d mX17_init [.ref a0] h (.ok none, h1) := by
  refine e_start [some (.ref a0)] (by decide) rfl rfl rfl (Nat.le_of_ble_eq_true rfl) (fun K hl0 hD0 hB0 hM hd0 hr => ?_)
  subst hl0 hD0 hB0 hd0
  have ho : (k_M K).1.cls = "PegBands$Kept" := by rw [hM]; rfl
  have hT : (k_M K).2.2.2.1 = none := by rw [hM]
  refine (show Sx K cX17_init 0 [some (.ref a0)] [] h (f_X17_init h a0) (fun w => w = h1) from ?_) _ e rfl
  clear e
  unfold f_X17_init
  refine S_aload_n (dc_X17_init 0 rfl) rfl ?_
  refine S_objInit (dc_X17_init 1 rfl) ho q1387 (by omega) (Nat.le_of_ble_eq_true rfl) ?_
  refine S_aload_n (dc_X17_init 2 rfl) rfl ?_
  refine S_bipush_ 8 (dc_X17_init 3 rfl) rfl ?_
  refine S_anewOB (t := 4) (dc_X17_init 4 rfl) ho (by decide) rfl q1388 q238 (fun l7 x7 h7 v7 u7 w7 => ?_)
  refine S_putR (v := (some x7)) (dc_X17_init 5 rfl) ho fl_X17_11_14_1 (fun _ _ => rfl) (Or.inr ⟨rfl, by rw [hM]; rfl, rfl⟩) rfl (fun h10 e10 => ?_)
  refine S_aload_n (dc_X17_init 6 rfl) rfl ?_
  refine S_newB (dc_X17_init 7 rfl) ho (show e_cl[3]? = some (RX4, TX4, 5) from rfl) (by decide) q1389 q284 q113 (fun x14 h14 u14 w14 => ?_)
  refine S_dup (dc_X17_init 8 rfl) rfl ?_
  refine S_rwV (d := k_d K - 1) (e_callIN (b := x14) (As := []) (rest := [.ref x14, .ref a0]) ok_X4_init rfl rfl rfl (Nat.le_of_ble_eq_true rfl) (dc_X17_init 9 rfl) ho q1390 q286 rfl (Nat.le_of_ble_eq_true rfl)) (by omega) (fun _ e => ct_X4_init (by omega) e) (fun h18 e18 => ?_)
  refine S_putR (v := (some x14)) (dc_X17_init 10 rfl) ho fl_X17_20_14_2 (fun _ _ => rfl) (Or.inr ⟨rfl, by rw [hM]; rfl, rfl⟩) rfl (fun h21 e21 => ?_)
  refine S_aload_n (dc_X17_init 11 rfl) rfl ?_
  refine S_bipush_ 9 (dc_X17_init 12 rfl) rfl ?_
  refine S_newaB (t := 0) (dc_X17_init 13 rfl) (by decide) rfl q311 (fun l27 x27 h27 v27 u27 w27 => ?_)
  refine S_putR (v := (some x27)) (dc_X17_init 14 rfl) ho fl_X17_24_14_3 (fun _ _ => rfl) (Or.inr ⟨rfl, by rw [hM]; rfl, rfl⟩) rfl (fun h29 e29 => ?_)
  refine S_aload_n (dc_X17_init 15 rfl) rfl ?_
  refine S_bipush_ 9 (dc_X17_init 16 rfl) rfl ?_
  refine S_newaB (t := 0) (dc_X17_init 17 rfl) (by decide) rfl q311 (fun l35 x35 h35 v35 u35 w35 => ?_)
  refine S_putR (v := (some x35)) (dc_X17_init 18 rfl) ho fl_X17_28_14_4 (fun _ _ => rfl) (Or.inr ⟨rfl, by rw [hM]; rfl, rfl⟩) rfl (fun h37 e37 => ?_)
  exact S_vret (dc_X17_init 19 rfl) hT (fun q => by cases q; exact hr)
abbrev cX5_init : ByteArray := prog_15_method_1_code
def yX5_init : MethodName := ⟨"PegBands$Reader", "<init>", "(LPegBands;I)V"⟩
def tb_X5_init : List (Nat × Instr × Nat) := [(0, .aload_n 0, 1), (1, .aload_n 1, 1), (2, .putfield 3, 3), (5, .aload_n 0, 1), (6, .invokespecial 9, 3), (9, .aload_n 0, 1), (10, .iload_n 2, 1), (11, .putfield 15, 3), (14, .return_, 1)]
theorem tk_X5_init : ∀ q ∈ tb_X5_init, decode cX5_init q.1 = .ok q.2 := by decide +kernel
theorem dc_X5_init (k : Nat) {pc n : Nat} {i : Instr} (h : tb_X5_init[k]? = some (pc, i, n)) : decode cX5_init pc = .ok (i, n) := tk_X5_init (pc, i, n) (List.mem_of_getElem? h)
abbrev mX5_init : e_M := (yX5_init, cX5_init, 3, none, [])
theorem ok_X5_init : e_mok mX5_init 2 := ⟨q319, q114, by decide +kernel, fun sig h => by cases h; rfl⟩
theorem fl_X5_3 {c : Nat} (hc : c = 4 ∨ c = 5 ∨ c = 7) : e_FL "PegBands$Reader" 3 c 7 ∧ (∀ (g : e_H) (b : Nat), e_V g (e_ty c 7) b 7 = va_rf (e_R g b 7)) ∧ e_fin c 7 = true ∧ e_own c 7 = "PegBands$Reader" ∧ (e_ty c 7).isReference = true := by
  rcases hc with rfl | rfl | rfl
  · exact ⟨⟨_, rfl, by decide, Or.inl q344⟩, fun _ _ => rfl, rfl, rfl, rfl⟩
  · exact ⟨⟨_, rfl, by decide, Or.inl q344⟩, fun _ _ => rfl, rfl, rfl, rfl⟩
  · exact ⟨⟨_, rfl, by decide, Or.inl q344⟩, fun _ _ => rfl, rfl, rfl, rfl⟩
theorem fl_X5_15 {c : Nat} (hc : c = 4 ∨ c = 5 ∨ c = 7) : e_FL "PegBands$Reader" 15 c 0 ∧ (∀ (g : e_H) (b : Nat), e_V g (e_ty c 0) b 0 = .int (e_I g b 0)) ∧ e_fin c 0 = true ∧ e_own c 0 = "PegBands$Reader" ∧ (e_ty c 0).isReference = false := by
  rcases hc with rfl | rfl | rfl
  · exact ⟨⟨_, rfl, by decide, Or.inl q323⟩, fun _ _ => rfl, rfl, rfl, rfl⟩
  · exact ⟨⟨_, rfl, by decide, Or.inl q323⟩, fun _ _ => rfl, rfl, rfl, rfl⟩
  · exact ⟨⟨_, rfl, by decide, Or.inl q323⟩, fun _ _ => rfl, rfl, rfl, rfl⟩
def f_X5_init (c : Nat) (h : e_H) (a0 : Nat) (a1 : Nat) (a2 : Int32) : Option e_H :=
  Option.bind (e_gR h a0 c 7 (some a1)) (fun h2 =>
  Option.bind (e_gI h2 a0 c 0 a2) (fun h11 =>
  some h11))
set_option maxHeartbeats 4000000 in
set_option maxRecDepth 100000 in
theorem ct_X5_init {l : Launch} {D : e_D} {B : Heap} {c : Nat} {d : Nat} {h : e_H} {a0 : Nat} {a1 : Nat} {a2 : Int32} {h1 : e_H} (hc : c = 4 ∨ c = 5 ∨ c = 7) (hd : 1 ≤ d) (e : f_X5_init c h a0 a1 a2 = some h1) : e_Run l D B d mX5_init [.ref a0, .ref a1, .int a2] h (.ok none, h1) := by
  refine e_start [some (.ref a0), some (.ref a1), some (.int a2)] (by decide) rfl rfl rfl (Nat.le_of_ble_eq_true rfl) (fun K hl0 hD0 hB0 hM hd0 hr => ?_)
  subst hl0 hD0 hB0 hd0
  have ho : (k_M K).1.cls = "PegBands$Reader" := by rw [hM]; rfl
  have hT : (k_M K).2.2.2.1 = none := by rw [hM]
  refine (show Sx K cX5_init 0 [some (.ref a0), some (.ref a1), some (.int a2)] [] h (f_X5_init c h a0 a1 a2) (fun w => w = h1) from ?_) _ e rfl
  clear e
  unfold f_X5_init
  refine S_aload_n (dc_X5_init 0 rfl) rfl ?_
  refine S_aload_n (dc_X5_init 1 rfl) rfl ?_
  refine S_putR (v := (some a1)) (dc_X5_init 2 rfl) ho (fl_X5_3 hc).1 (fl_X5_3 hc).2.1 (Or.inr ⟨(fl_X5_3 hc).2.2.1, by rw [hM]; rfl, (fl_X5_3 hc).2.2.2.1⟩) (fl_X5_3 hc).2.2.2.2 (fun h2 e2 => ?_)
  refine S_aload_n (dc_X5_init 3 rfl) rfl ?_
  refine S_objInit (dc_X5_init 4 rfl) ho q320 (by omega) (Nat.le_of_ble_eq_true rfl) ?_
  refine S_aload_n (dc_X5_init 5 rfl) rfl ?_
  refine S_iload_n (dc_X5_init 6 rfl) rfl ?_
  refine S_putI (dc_X5_init 7 rfl) ho (fl_X5_15 hc).1 (fl_X5_15 hc).2.1 (Or.inr ⟨(fl_X5_15 hc).2.2.1, by rw [hM]; rfl, (fl_X5_15 hc).2.2.2.1⟩) (by rcases hc with rfl | rfl | rfl <;> rfl) (by rcases hc with rfl | rfl | rfl <;> rfl) (fun h11 e11 => ?_)
  exact S_vret (dc_X5_init 8 rfl) hT (fun q => by cases q; exact hr)
abbrev cX7_init : ByteArray := prog_8_method_1_code
def yX7_init : MethodName := ⟨"PegBands$CallsReader", "<init>", "(LPegBands;)V"⟩
def tb_X7_init : List (Nat × Instr × Nat) := [(0, .aload_n 0, 1), (1, .aload_n 1, 1), (2, .putfield 3, 3), (5, .aload_n 0, 1), (6, .aload_n 1, 1), (7, .sipush 300, 3), (10, .invokespecial 9, 3), (13, .return_, 1)]
theorem tk_X7_init : ∀ q ∈ tb_X7_init, decode cX7_init q.1 = .ok q.2 := by decide +kernel
theorem dc_X7_init (k : Nat) {pc n : Nat} {i : Instr} (h : tb_X7_init[k]? = some (pc, i, n)) : decode cX7_init pc = .ok (i, n) := tk_X7_init (pc, i, n) (List.mem_of_getElem? h)
abbrev mX7_init : e_M := (yX7_init, cX7_init, 2, none, [])
theorem ok_X7_init : e_mok mX7_init 1 := ⟨q370, q116, by decide +kernel, fun sig h => by cases h; rfl⟩
theorem fl_X7_3_5_8 : e_FL "PegBands$CallsReader" 3 5 8 := ⟨_, rfl, by decide, Or.inl q372⟩
def f_X7_init (h : e_H) (a0 : Nat) (a1 : Nat) : Option e_H :=
  Option.bind (e_gR h a0 5 8 (some a1)) (fun h2 =>
  Option.bind (f_X5_init 5 h2 a0 a1 300) (fun h10 =>
  some h10))
set_option maxHeartbeats 4000000 in
set_option maxRecDepth 100000 in
theorem ct_X7_init {l : Launch} {D : e_D} {B : Heap} {d : Nat} {h : e_H} {a0 : Nat} {a1 : Nat} {h1 : e_H} (hd : 2 ≤ d) (e : f_X7_init h a0 a1 = some h1) : e_Run l D B d mX7_init [.ref a0, .ref a1] h (.ok none, h1) := by
  refine e_start [some (.ref a0), some (.ref a1)] (by decide) rfl rfl rfl (Nat.le_of_ble_eq_true rfl) (fun K hl0 hD0 hB0 hM hd0 hr => ?_)
  subst hl0 hD0 hB0 hd0
  have ho : (k_M K).1.cls = "PegBands$CallsReader" := by rw [hM]; rfl
  have hT : (k_M K).2.2.2.1 = none := by rw [hM]
  refine (show Sx K cX7_init 0 [some (.ref a0), some (.ref a1)] [] h (f_X7_init h a0 a1) (fun w => w = h1) from ?_) _ e rfl
  clear e
  unfold f_X7_init
  refine S_aload_n (dc_X7_init 0 rfl) rfl ?_
  refine S_aload_n (dc_X7_init 1 rfl) rfl ?_
  refine S_putR (v := (some a1)) (dc_X7_init 2 rfl) ho fl_X7_3_5_8 (fun _ _ => rfl) (Or.inr ⟨rfl, by rw [hM]; rfl, rfl⟩) rfl (fun h2 e2 => ?_)
  refine S_aload_n (dc_X7_init 3 rfl) rfl ?_
  refine S_aload_n (dc_X7_init 4 rfl) rfl ?_
  refine S_sipush_ 300 (dc_X7_init 5 rfl) rfl ?_
  refine S_rwV (d := k_d K - 1) (e_callI (b := a0) (As := [.ref a1, .int 300]) (rest := []) ok_X5_init rfl rfl rfl (Nat.le_of_ble_eq_true rfl) (dc_X7_init 6 rfl) ho q371 q318 rfl (Nat.le_of_ble_eq_true rfl)) (by omega) (fun _ e => ct_X5_init (by decide) (by omega) e) (fun h10 e10 => ?_)
  exact S_vret (dc_X7_init 7 rfl) hT (fun q => by cases q; exact hr)
abbrev cX5_peek : ByteArray := prog_15_method_3_code
def yX5_peek : MethodName := ⟨"PegBands$Reader", "peek", "()I"⟩
def tb_X5_peek : List (Nat × Instr × Nat) := [(0, .aload_n 0, 1), (1, .getfield 19, 3), (4, .aload_n 0, 1), (5, .getfield 3, 3), (8, .getfield 25, 3), (11, .if_icmp .ge 22, 3), (14, .aload_n 0, 1), (15, .getfield 3, 3), (18, .getfield 28, 3), (21, .aload_n 0, 1), (22, .getfield 19, 3), (25, .baload, 1), (26, .sipush 255, 3), (29, .iand, 1), (30, .goto 4, 3), (33, .iconst (-1), 1), (34, .ireturn, 1)]
theorem tk_X5_peek : ∀ q ∈ tb_X5_peek, decode cX5_peek q.1 = .ok q.2 := by decide +kernel
theorem dc_X5_peek (k : Nat) {pc n : Nat} {i : Instr} (h : tb_X5_peek[k]? = some (pc, i, n)) : decode cX5_peek pc = .ok (i, n) := tk_X5_peek (pc, i, n) (List.mem_of_getElem? h)
abbrev mX5_peek : e_M := (yX5_peek, cX5_peek, 1, some (.int), [])
theorem ok_X5_peek : e_mok mX5_peek 0 := ⟨q610, q114, by decide +kernel, fun sig h => by cases h; rfl⟩
theorem fl_X5_19 {c : Nat} (hc : c = 4 ∨ c = 5 ∨ c = 7) : e_FL "PegBands$Reader" 19 c 1 ∧ (∀ (g : e_H) (b : Nat), e_V g (e_ty c 1) b 1 = .int (e_I g b 1)) ∧ e_fin c 1 = false ∧ e_own c 1 = "PegBands$Reader" ∧ (e_ty c 1).isReference = false := by
  rcases hc with rfl | rfl | rfl
  · exact ⟨⟨_, rfl, by decide, Or.inl q324⟩, fun _ _ => rfl, rfl, rfl, rfl⟩
  · exact ⟨⟨_, rfl, by decide, Or.inl q324⟩, fun _ _ => rfl, rfl, rfl, rfl⟩
  · exact ⟨⟨_, rfl, by decide, Or.inl q324⟩, fun _ _ => rfl, rfl, rfl, rfl⟩
theorem fl_X5_25_0_2 : e_FL "PegBands$Reader" 25 0 2 := ⟨_, rfl, by decide, Or.inr (Or.inr (Or.inl ⟨_, q453⟩))⟩
theorem fl_X5_28_0_0 : e_FL "PegBands$Reader" 28 0 0 := ⟨_, rfl, by decide, Or.inr (Or.inr (Or.inl ⟨_, q451⟩))⟩
def f_X5_peek (c : Nat) (h : e_H) (a0 : Nat) : Option Int32 :=
  Option.bind (e_fI h a0 c 1) (fun x1 =>
  Option.bind (e_fA h a0 c 7) (fun x5 =>
  Option.bind (e_fI h x5 0 2) (fun x8 =>
  if x8 ≤ x1 then
    some (-1)
  else
    Option.bind (e_fA h a0 c 7) (fun x15 =>
    Option.bind (e_fA h x15 0 0) (fun x18 =>
    Option.bind (e_fI h a0 c 1) (fun x22 =>
    Option.bind (e_aI h x18 1 x22) (fun x25 =>
    some (x25 &&& 255))))))))
set_option maxHeartbeats 4000000 in
set_option maxRecDepth 100000 in
theorem ct_X5_peek {l : Launch} {D : e_D} {B : Heap} {c : Nat} {d : Nat} {h : e_H} {a0 : Nat} {v : Int32} (hc : c = 4 ∨ c = 5 ∨ c = 7) (hd : 1 ≤ d) (e : f_X5_peek c h a0 = some v) : e_Run l D B d mX5_peek [.ref a0] h (.ok (some (.int v)), h) := by
  refine e_start [some (.ref a0)] (by decide) rfl rfl rfl (Nat.le_of_ble_eq_true rfl) (fun K hl0 hD0 hB0 hM hd0 hr => ?_)
  subst hl0 hD0 hB0 hd0
  have ho : (k_M K).1.cls = "PegBands$Reader" := by rw [hM]; rfl
  have hT : (k_M K).2.2.2.1 = some (.int) := by rw [hM]
  refine (show Sx K cX5_peek 0 [some (.ref a0)] [] h (f_X5_peek c h a0) (fun w => w = v) from ?_) _ e rfl
  clear e
  unfold f_X5_peek
  refine S_aload_n (dc_X5_peek 0 rfl) rfl ?_
  refine S_getI (dc_X5_peek 1 rfl) ho (fl_X5_19 hc).1 (fl_X5_19 hc).2.1 (fun x1 e1 => ?_)
  refine S_aload_n (dc_X5_peek 2 rfl) rfl ?_
  refine S_getA (dc_X5_peek 3 rfl) ho (fl_X5_3 hc).1 (fl_X5_3 hc).2.1 (fun x5 e5 => ?_)
  refine S_getI (dc_X5_peek 4 rfl) ho fl_X5_25_0_2 (fun _ _ => rfl) (fun x8 e8 => ?_)
  refine S_icmp_ge 33 (dc_X5_peek 5 rfl) rfl (fun c11 => ?_) (fun c11 => ?_)
  · refine S_iconst_ (-1) (dc_X5_peek 15 rfl) rfl ?_
    exact S_iret (dc_X5_peek 16 rfl) hT rfl (fun q => by cases q; exact hr)
  · refine S_aload_n (dc_X5_peek 6 rfl) rfl ?_
    refine S_getA (dc_X5_peek 7 rfl) ho (fl_X5_3 hc).1 (fl_X5_3 hc).2.1 (fun x15 e15 => ?_)
    refine S_getA (dc_X5_peek 8 rfl) ho fl_X5_28_0_0 (fun _ _ => rfl) (fun x18 e18 => ?_)
    refine S_aload_n (dc_X5_peek 9 rfl) rfl ?_
    refine S_getI (dc_X5_peek 10 rfl) ho (fl_X5_19 hc).1 (fl_X5_19 hc).2.1 (fun x22 e22 => ?_)
    refine S_bald (dc_X5_peek 11 rfl) (fun x25 e25 => ?_)
    refine S_sipush_ 255 (dc_X5_peek 12 rfl) rfl ?_
    refine S_iand (dc_X5_peek 13 rfl) ?_
    refine S_goto 34 (dc_X5_peek 14 rfl) rfl ?_
    exact S_iret (dc_X5_peek 16 rfl) hT rfl (fun q => by cases q; exact hr)
abbrev cX1_isIn : ByteArray := prog_1_method_6_code
def yX1_isIn : MethodName := ⟨"PegBands", "isIn", "(III)Z"⟩
def tb_X1_isIn : List (Nat × Instr × Nat) := [(0, .iload_n 0, 1), (1, .iload_n 1, 1), (2, .if_icmp .lt 12, 3), (5, .iload_n 0, 1), (6, .iload_n 2, 1), (7, .if_icmp .gt 7, 3), (10, .iconst 1, 1), (11, .goto 4, 3), (14, .iconst 0, 1), (15, .ireturn, 1)]
theorem tk_X1_isIn : ∀ q ∈ tb_X1_isIn, decode cX1_isIn q.1 = .ok q.2 := by decide +kernel
theorem dc_X1_isIn (k : Nat) {pc n : Nat} {i : Instr} (h : tb_X1_isIn[k]? = some (pc, i, n)) : decode cX1_isIn pc = .ok (i, n) := tk_X1_isIn (pc, i, n) (List.mem_of_getElem? h)
abbrev mX1_isIn : e_M := (yX1_isIn, cX1_isIn, 3, some (.boolean), [])
theorem ok_X1_isIn : e_mok mX1_isIn 3 := ⟨q617, q108, by decide +kernel, fun sig h => by cases h; rfl⟩
def f_X1_isIn (a0 : Int32) (a1 : Int32) (a2 : Int32) : Option Int32 :=
  if a0 < a1 then
    some 0
  else
    if a2 < a0 then
      some 0
    else
      some 1
set_option maxHeartbeats 4000000 in
set_option maxRecDepth 100000 in
theorem ct_X1_isIn {l : Launch} {D : e_D} {B : Heap} {d : Nat} {h : e_H} {a0 : Int32} {a1 : Int32} {a2 : Int32} {v : Int32} (hd : 1 ≤ d) (e : f_X1_isIn a0 a1 a2 = some v) : e_Run l D B d mX1_isIn [.int a0, .int a1, .int a2] h (.ok (some (.int v)), h) := by
  refine e_start [some (.int a0), some (.int a1), some (.int a2)] (by decide) rfl rfl rfl (Nat.le_of_ble_eq_true rfl) (fun K hl0 hD0 hB0 hM hd0 hr => ?_)
  subst hl0 hD0 hB0 hd0
  have ho : (k_M K).1.cls = "PegBands" := by rw [hM]; rfl
  have hT : (k_M K).2.2.2.1 = some (.boolean) := by rw [hM]
  refine (show Sx K cX1_isIn 0 [some (.int a0), some (.int a1), some (.int a2)] [] h (f_X1_isIn a0 a1 a2) (fun w => w = v) from ?_) _ e rfl
  clear e
  unfold f_X1_isIn
  refine S_iload_n (dc_X1_isIn 0 rfl) rfl ?_
  refine S_iload_n (dc_X1_isIn 1 rfl) rfl ?_
  refine S_icmp_lt 14 (dc_X1_isIn 2 rfl) rfl (fun c2 => ?_) (fun c2 => ?_)
  · refine S_iconst_ 0 (dc_X1_isIn 8 rfl) rfl ?_
    exact S_iret (dc_X1_isIn 9 rfl) hT rfl (fun q => by cases q; exact hr)
  · refine S_iload_n (dc_X1_isIn 3 rfl) rfl ?_
    refine S_iload_n (dc_X1_isIn 4 rfl) rfl ?_
    refine S_icmp_gt 14 (dc_X1_isIn 5 rfl) rfl (fun c7 => ?_) (fun c7 => ?_)
    · refine S_iconst_ 0 (dc_X1_isIn 8 rfl) rfl ?_
      exact S_iret (dc_X1_isIn 9 rfl) hT rfl (fun q => by cases q; exact hr)
    · refine S_iconst_ 1 (dc_X1_isIn 6 rfl) rfl ?_
      refine S_goto 15 (dc_X1_isIn 7 rfl) rfl ?_
      exact S_iret (dc_X1_isIn 9 rfl) hT rfl (fun q => by cases q; exact hr)
abbrev cX5_isLetter : ByteArray := prog_15_method_4_code
def yX5_isLetter : MethodName := ⟨"PegBands$Reader", "isLetter", "(I)Z"⟩
def tb_X5_isLetter : List (Nat × Instr × Nat) := [(0, .iload_n 1, 1), (1, .bipush 97, 2), (3, .bipush 122, 2), (5, .invokestatic 32, 3), (8, .ireturn, 1)]
theorem tk_X5_isLetter : ∀ q ∈ tb_X5_isLetter, decode cX5_isLetter q.1 = .ok q.2 := by decide +kernel
theorem dc_X5_isLetter (k : Nat) {pc n : Nat} {i : Instr} (h : tb_X5_isLetter[k]? = some (pc, i, n)) : decode cX5_isLetter pc = .ok (i, n) := tk_X5_isLetter (pc, i, n) (List.mem_of_getElem? h)
abbrev mX5_isLetter : e_M := (yX5_isLetter, cX5_isLetter, 2, some (.boolean), [])
theorem ok_X5_isLetter : e_mok mX5_isLetter 1 := ⟨q614, q114, by decide +kernel, fun sig h => by cases h; rfl⟩
def f_X5_isLetter (c : Nat) (a0 : Nat) (a1 : Int32) : Option Int32 :=
  Option.bind (f_X1_isIn a1 97 122) (fun x5 =>
  if x5 = 0 ∨ x5 = 1 then some x5 else none)
set_option maxHeartbeats 4000000 in
set_option maxRecDepth 100000 in
theorem ct_X5_isLetter {l : Launch} {D : e_D} {B : Heap} {c : Nat} {d : Nat} {h : e_H} {a0 : Nat} {a1 : Int32} {v : Int32} (hc : c = 4 ∨ c = 5 ∨ c = 7) (hd : 2 ≤ d) (e : f_X5_isLetter c a0 a1 = some v) : e_Run l D B d mX5_isLetter [.ref a0, .int a1] h (.ok (some (.int v)), h) := by
  refine e_start [some (.ref a0), some (.int a1)] (by decide) rfl rfl rfl (Nat.le_of_ble_eq_true rfl) (fun K hl0 hD0 hB0 hM hd0 hr => ?_)
  subst hl0 hD0 hB0 hd0
  have ho : (k_M K).1.cls = "PegBands$Reader" := by rw [hM]; rfl
  have hT : (k_M K).2.2.2.1 = some (.boolean) := by rw [hM]
  refine (show Sx K cX5_isLetter 0 [some (.ref a0), some (.int a1)] [] h (f_X5_isLetter c a0 a1) (fun w => w = v) from ?_) _ e rfl
  clear e
  unfold f_X5_isLetter
  refine S_iload_n (dc_X5_isLetter 0 rfl) rfl ?_
  refine S_bipush_ 97 (dc_X5_isLetter 1 rfl) rfl ?_
  refine S_bipush_ 122 (dc_X5_isLetter 2 rfl) rfl ?_
  refine S_roI (d := k_d K - 1) (e_callSN (As := [.int a1, .int 97, .int 122]) (rest := []) ok_X1_isIn rfl (Nat.le_of_ble_eq_true rfl) (dc_X5_isLetter 3 rfl) ho q615 q616 rfl (Nat.le_of_ble_eq_true rfl)) (by omega) (fun _ e => ct_X1_isIn (by omega) e) (fun x5 e5 => ?_)
  refine Sx.cond (fun c8 => ?_)
  exact S_iret (dc_X5_isLetter 4 rfl) hT (e_narZ c8).1 (fun q => by cases q; exact hr)
abbrev cX5_isDigit : ByteArray := prog_15_method_5_code
def yX5_isDigit : MethodName := ⟨"PegBands$Reader", "isDigit", "(I)Z"⟩
def tb_X5_isDigit : List (Nat × Instr × Nat) := [(0, .iload_n 1, 1), (1, .bipush 48, 2), (3, .bipush 57, 2), (5, .invokestatic 32, 3), (8, .ireturn, 1)]
theorem tk_X5_isDigit : ∀ q ∈ tb_X5_isDigit, decode cX5_isDigit q.1 = .ok q.2 := by decide +kernel
theorem dc_X5_isDigit (k : Nat) {pc n : Nat} {i : Instr} (h : tb_X5_isDigit[k]? = some (pc, i, n)) : decode cX5_isDigit pc = .ok (i, n) := tk_X5_isDigit (pc, i, n) (List.mem_of_getElem? h)
abbrev mX5_isDigit : e_M := (yX5_isDigit, cX5_isDigit, 2, some (.boolean), [])
theorem ok_X5_isDigit : e_mok mX5_isDigit 1 := ⟨q621, q114, by decide +kernel, fun sig h => by cases h; rfl⟩
def f_X5_isDigit (c : Nat) (a0 : Nat) (a1 : Int32) : Option Int32 :=
  Option.bind (f_X1_isIn a1 48 57) (fun x5 =>
  if x5 = 0 ∨ x5 = 1 then some x5 else none)
set_option maxHeartbeats 4000000 in
set_option maxRecDepth 100000 in
theorem ct_X5_isDigit {l : Launch} {D : e_D} {B : Heap} {c : Nat} {d : Nat} {h : e_H} {a0 : Nat} {a1 : Int32} {v : Int32} (hc : c = 4 ∨ c = 5 ∨ c = 7) (hd : 2 ≤ d) (e : f_X5_isDigit c a0 a1 = some v) : e_Run l D B d mX5_isDigit [.ref a0, .int a1] h (.ok (some (.int v)), h) := by
  refine e_start [some (.ref a0), some (.int a1)] (by decide) rfl rfl rfl (Nat.le_of_ble_eq_true rfl) (fun K hl0 hD0 hB0 hM hd0 hr => ?_)
  subst hl0 hD0 hB0 hd0
  have ho : (k_M K).1.cls = "PegBands$Reader" := by rw [hM]; rfl
  have hT : (k_M K).2.2.2.1 = some (.boolean) := by rw [hM]
  refine (show Sx K cX5_isDigit 0 [some (.ref a0), some (.int a1)] [] h (f_X5_isDigit c a0 a1) (fun w => w = v) from ?_) _ e rfl
  clear e
  unfold f_X5_isDigit
  refine S_iload_n (dc_X5_isDigit 0 rfl) rfl ?_
  refine S_bipush_ 48 (dc_X5_isDigit 1 rfl) rfl ?_
  refine S_bipush_ 57 (dc_X5_isDigit 2 rfl) rfl ?_
  refine S_roI (d := k_d K - 1) (e_callSN (As := [.int a1, .int 48, .int 57]) (rest := []) ok_X1_isIn rfl (Nat.le_of_ble_eq_true rfl) (dc_X5_isDigit 3 rfl) ho q615 q616 rfl (Nat.le_of_ble_eq_true rfl)) (by omega) (fun _ e => ct_X1_isIn (by omega) e) (fun x5 e5 => ?_)
  refine Sx.cond (fun c8 => ?_)
  exact S_iret (dc_X5_isDigit 4 rfl) hT (e_narZ c8).1 (fun q => by cases q; exact hr)
abbrev cX5_run : ByteArray := prog_15_method_7_code
def yX5_run : MethodName := ⟨"PegBands$Reader", "run", "(Z)V"⟩
def tb_X5_run : List (Nat × Instr × Nat) := [(0, .iconst 1, 1), (1, .istore_n 2, 1), (2, .aload_n 0, 1), (3, .iconst 0, 1), (4, .putfield 57, 3), (7, .aload_n 0, 1), (8, .lconst 0, 1), (9, .putfield 60, 3), (12, .aload_n 0, 1), (13, .aload_n 0, 1), (14, .invokevirtual 36, 3), (17, .invokevirtual 46, 3), (20, .ifCond .ne 14, 3), (23, .aload_n 0, 1), (24, .aload_n 0, 1), (25, .invokevirtual 36, 3), (28, .invokevirtual 50, 3), (31, .ifCond .eq 101, 3), (34, .iload_n 2, 1), (35, .ifCond .eq 19, 3), (38, .aload_n 0, 1), (39, .aload_n 0, 1), (40, .invokevirtual 36, 3), (43, .invokevirtual 46, 3), (46, .iload_n 1, 1), (47, .if_icmp .ne 7, 3), (50, .iconst 1, 1), (51, .goto 4, 3), (54, .iconst 0, 1), (55, .istore_n 2, 1), (56, .aload_n 0, 1), (57, .getfield 19, 3), (60, .aload_n 0, 1), (61, .getfield 40, 3), (64, .isub, 1), (65, .bipush 7, 2), (67, .if_icmp .ge 20, 3), (70, .aload_n 0, 1), (71, .aload_n 0, 1), (72, .getfield 60, 3), (75, .bipush 8, 2), (77, .lshl, 1), (78, .aload_n 0, 1), (79, .invokevirtual 36, 3), (82, .i2l, 1), (83, .lor, 1), (84, .putfield 60, 3), (87, .aload_n 0, 1), (88, .getfield 19, 3), (91, .aload_n 0, 1), (92, .getfield 40, 3), (95, .isub, 1), (96, .iconst 3, 1), (97, .if_icmp .ge 22, 3), (100, .aload_n 0, 1), (101, .bipush 10, 2), (103, .aload_n 0, 1), (104, .getfield 57, 3), (107, .imul, 1), (108, .aload_n 0, 1), (109, .invokevirtual 36, 3), (112, .iadd, 1), (113, .bipush 48, 2), (115, .isub, 1), (116, .putfield 57, 3), (119, .aload_n 0, 1), (120, .dup, 1), (121, .getfield 19, 3), (124, .iconst 1, 1), (125, .iadd, 1), (126, .putfield 19, 3), (129, .goto (-117), 3), (132, .aload_n 0, 1), (133, .aload_n 0, 1), (134, .getfield 19, 3), (137, .aload_n 0, 1), (138, .getfield 40, 3), (141, .isub, 1), (142, .putfield 64, 3), (145, .aload_n 0, 1), (146, .iload_n 2, 1), (147, .ifCond .eq 20, 3), (150, .aload_n 0, 1), (151, .getfield 64, 3), (154, .iload_n 1, 1), (155, .ifCond .eq 8, 3), (158, .bipush 7, 2), (160, .goto 4, 3), (163, .iconst 3, 1), (164, .if_icmp .le 7, 3), (167, .iconst 4, 1), (168, .goto 12, 3), (171, .iload_n 1, 1), (172, .ifCond .eq 7, 3), (175, .iconst 1, 1), (176, .goto 4, 3), (179, .iconst 2, 1), (180, .putfield 43, 3), (183, .return_, 1)]
theorem tk_X5_run : ∀ q ∈ tb_X5_run, decode cX5_run q.1 = .ok q.2 := by decide +kernel
theorem dc_X5_run (k : Nat) {pc n : Nat} {i : Instr} (h : tb_X5_run[k]? = some (pc, i, n)) : decode cX5_run pc = .ok (i, n) := tk_X5_run (pc, i, n) (List.mem_of_getElem? h)
abbrev mX5_run : e_M := (yX5_run, cX5_run, 3, none, [])
theorem ok_X5_run : e_mok mX5_run 1 := ⟨q625, q114, by decide +kernel, fun sig h => by cases h; rfl⟩
theorem fl_X5_57 {c : Nat} (hc : c = 4 ∨ c = 5 ∨ c = 7) : e_FL "PegBands$Reader" 57 c 4 ∧ (∀ (g : e_H) (b : Nat), e_V g (e_ty c 4) b 4 = .int (e_I g b 4)) ∧ e_fin c 4 = false ∧ e_own c 4 = "PegBands$Reader" ∧ (e_ty c 4).isReference = false := by
  rcases hc with rfl | rfl | rfl
  · exact ⟨⟨_, rfl, by decide, Or.inl q337⟩, fun _ _ => rfl, rfl, rfl, rfl⟩
  · exact ⟨⟨_, rfl, by decide, Or.inl q337⟩, fun _ _ => rfl, rfl, rfl, rfl⟩
  · exact ⟨⟨_, rfl, by decide, Or.inl q337⟩, fun _ _ => rfl, rfl, rfl, rfl⟩
theorem fl_X5_60 {c : Nat} (hc : c = 4 ∨ c = 5 ∨ c = 7) : e_FL "PegBands$Reader" 60 c 6 ∧ (∀ (g : e_H) (b : Nat), e_V g (e_ty c 6) b 6 = .long (e_J g b 6)) ∧ e_fin c 6 = false ∧ e_own c 6 = "PegBands$Reader" ∧ (e_ty c 6).isReference = false := by
  rcases hc with rfl | rfl | rfl
  · exact ⟨⟨_, rfl, by decide, Or.inl q343⟩, fun _ _ => rfl, rfl, rfl, rfl⟩
  · exact ⟨⟨_, rfl, by decide, Or.inl q343⟩, fun _ _ => rfl, rfl, rfl, rfl⟩
  · exact ⟨⟨_, rfl, by decide, Or.inl q343⟩, fun _ _ => rfl, rfl, rfl, rfl⟩
theorem fl_X5_40 {c : Nat} (hc : c = 4 ∨ c = 5 ∨ c = 7) : e_FL "PegBands$Reader" 40 c 2 ∧ (∀ (g : e_H) (b : Nat), e_V g (e_ty c 2) b 2 = .int (e_I g b 2)) ∧ e_fin c 2 = false ∧ e_own c 2 = "PegBands$Reader" ∧ (e_ty c 2).isReference = false := by
  rcases hc with rfl | rfl | rfl
  · exact ⟨⟨_, rfl, by decide, Or.inl q325⟩, fun _ _ => rfl, rfl, rfl, rfl⟩
  · exact ⟨⟨_, rfl, by decide, Or.inl q325⟩, fun _ _ => rfl, rfl, rfl, rfl⟩
  · exact ⟨⟨_, rfl, by decide, Or.inl q325⟩, fun _ _ => rfl, rfl, rfl, rfl⟩
theorem fl_X5_64 {c : Nat} (hc : c = 4 ∨ c = 5 ∨ c = 7) : e_FL "PegBands$Reader" 64 c 5 ∧ (∀ (g : e_H) (b : Nat), e_V g (e_ty c 5) b 5 = .int (e_I g b 5)) ∧ e_fin c 5 = false ∧ e_own c 5 = "PegBands$Reader" ∧ (e_ty c 5).isReference = false := by
  rcases hc with rfl | rfl | rfl
  · exact ⟨⟨_, rfl, by decide, Or.inl q338⟩, fun _ _ => rfl, rfl, rfl, rfl⟩
  · exact ⟨⟨_, rfl, by decide, Or.inl q338⟩, fun _ _ => rfl, rfl, rfl, rfl⟩
  · exact ⟨⟨_, rfl, by decide, Or.inl q338⟩, fun _ _ => rfl, rfl, rfl, rfl⟩
theorem fl_X5_43 {c : Nat} (hc : c = 4 ∨ c = 5 ∨ c = 7) : e_FL "PegBands$Reader" 43 c 3 ∧ (∀ (g : e_H) (b : Nat), e_V g (e_ty c 3) b 3 = .int (e_I g b 3)) ∧ e_fin c 3 = false ∧ e_own c 3 = "PegBands$Reader" ∧ (e_ty c 3).isReference = false := by
  rcases hc with rfl | rfl | rfl
  · exact ⟨⟨_, rfl, by decide, Or.inl q332⟩, fun _ _ => rfl, rfl, rfl, rfl⟩
  · exact ⟨⟨_, rfl, by decide, Or.inl q332⟩, fun _ _ => rfl, rfl, rfl, rfl⟩
  · exact ⟨⟨_, rfl, by decide, Or.inl q332⟩, fun _ _ => rfl, rfl, rfl, rfl⟩
theorem rs_X5_isDigit {c : Nat} (hc : c = 4 ∨ c = 5 ∨ c = 7) : ∃ q : vw_C, e_cl[c]? = some q ∧ e_sel q.1 yX5_isDigit yX5_isDigit := by
  rcases hc with rfl | rfl | rfl
  · exact ⟨_, rfl, e_sel.priv (by decide +kernel)⟩
  · exact ⟨_, rfl, e_sel.priv (by decide +kernel)⟩
  · exact ⟨_, rfl, e_sel.priv (by decide +kernel)⟩
theorem rs_X5_isLetter {c : Nat} (hc : c = 4 ∨ c = 5 ∨ c = 7) : ∃ q : vw_C, e_cl[c]? = some q ∧ e_sel q.1 yX5_isLetter yX5_isLetter := by
  rcases hc with rfl | rfl | rfl
  · exact ⟨_, rfl, e_sel.priv (by decide +kernel)⟩
  · exact ⟨_, rfl, e_sel.priv (by decide +kernel)⟩
  · exact ⟨_, rfl, e_sel.priv (by decide +kernel)⟩
theorem rs_X5_peek {c : Nat} (hc : c = 4 ∨ c = 5 ∨ c = 7) : ∃ q : vw_C, e_cl[c]? = some q ∧ e_sel q.1 yX5_peek yX5_peek := by
  rcases hc with rfl | rfl | rfl
  · exact ⟨_, rfl, e_sel.priv (by decide +kernel)⟩
  · exact ⟨_, rfl, e_sel.priv (by decide +kernel)⟩
  · exact ⟨_, rfl, e_sel.priv (by decide +kernel)⟩
def lp_X5_run_12 (F : Nat) (c : Nat) (a0 : Nat) (a1 : Int32) : Nat → Int32 → e_H → Option ((Int32 × e_H))
  | 0, _, _ => none
  | n + 1, x2_12, h_12 =>
    Option.bind (e_is h_12 a0 c) (fun _ =>
    Option.bind (f_X5_peek c h_12 a0) (fun x14 =>
    Option.bind (f_X5_isLetter c a0 x14) (fun x17 =>
    e_bE (
        if x17 = 0 then
          Option.bind (f_X5_peek c h_12 a0) (fun x25 =>
          Option.bind (f_X5_isDigit c a0 x25) (fun x28 =>
          if x28 = 0 then
            some (.error (x2_12, h_12))
          else
            some (.ok ())))
        else
          some (.ok ())
      : Option (Except (Int32 × e_H) Unit)) (fun _ =>
    Option.bind (
        e_bE (
            if x2_12 = 0 then
              some (.ok ())
            else
              Option.bind (f_X5_peek c h_12 a0) (fun x40 =>
              Option.bind (f_X5_isLetter c a0 x40) (fun x43 =>
              if x43 = a1 then
                some (.error 1)
              else
                some (.ok ())))
          : Option (Except Int32 Unit)) (fun _ =>
        some 0)
      : Option (Int32)) (fun s55_3 =>
    Option.bind (e_fI h_12 a0 c 1) (fun x57 =>
    Option.bind (e_fI h_12 a0 c 2) (fun x61 =>
    Option.bind (
        if 7 ≤ (x57 - x61) then
          some h_12
        else
          Option.bind (e_fJ h_12 a0 c 6) (fun x72 =>
          Option.bind (f_X5_peek c h_12 a0) (fun x79 =>
          Option.bind (e_gJ h_12 a0 c 6 ((x72 <<< ((8 : Int32).toInt64 &&& 63)) ||| (x79.toInt64))) (fun h84 =>
          some h84)))
      : Option (e_H)) (fun h87_5 =>
    Option.bind (e_fI h87_5 a0 c 1) (fun x88 =>
    Option.bind (e_fI h87_5 a0 c 2) (fun x92 =>
    Option.bind (
        if 3 ≤ (x88 - x92) then
          some h87_5
        else
          Option.bind (e_fI h87_5 a0 c 4) (fun x104 =>
          Option.bind (f_X5_peek c h87_5 a0) (fun x109 =>
          Option.bind (e_gI h87_5 a0 c 4 (((10 * x104) + x109) - 48)) (fun h116 =>
          some h116)))
      : Option (e_H)) (fun h119_6 =>
    Option.bind (e_fI h119_6 a0 c 1) (fun x121 =>
    Option.bind (e_gI h119_6 a0 c 1 (x121 + 1)) (fun h126 =>
    lp_X5_run_12 F c a0 a1 n s55_3 h126)))))))))))))
def f_X5_run (F : Nat) (c : Nat) (h : e_H) (a0 : Nat) (a1 : Int32) : Option e_H :=
  Option.bind (e_gI h a0 c 4 0) (fun h4 =>
  Option.bind (e_gJ h4 a0 c 6 0) (fun h9 =>
  Option.bind (
      lp_X5_run_12 F c a0 a1 F 1 h9
    : Option ((Int32 × e_H))) (e_u2 (fun x2_132_1 h132_1 =>
  Option.bind (e_fI h132_1 a0 c 1) (fun x134 =>
  Option.bind (e_fI h132_1 a0 c 2) (fun x138 =>
  Option.bind (e_gI h132_1 a0 c 5 (x134 - x138)) (fun h142 =>
  Option.bind (
      e_bE (
          if x2_132_1 = 0 then
            some (.ok ())
          else
            Option.bind (e_fI h142 a0 c 5) (fun x151 =>
            Option.bind (
                if a1 = 0 then
                  some 3
                else
                  some 7
              : Option (Int32)) (fun s164_9 =>
            if x151 ≤ s164_9 then
              if a1 = 0 then
                some (.error 2)
              else
                some (.error 1)
            else
              some (.ok ())))
        : Option (Except Int32 Unit)) (fun _ =>
      some 4)
    : Option (Int32)) (fun s180_7 =>
  Option.bind (e_gI h142 a0 c 3 s180_7) (fun h180 =>
  some h180)))))))))
set_option maxHeartbeats 4000000 in
set_option maxRecDepth 100000 in
theorem ct_X5_run {l : Launch} {D : e_D} {B : Heap} {F : Nat} {c : Nat} {d : Nat} {h : e_H} {a0 : Nat} {a1 : Int32} {h1 : e_H} (hc : c = 4 ∨ c = 5 ∨ c = 7) (hd : 3 ≤ d) (e : f_X5_run F c h a0 a1 = some h1) : e_Run l D B d mX5_run [.ref a0, .int a1] h (.ok none, h1) := by
  refine e_start [some (.ref a0), some (.int a1), none] (by decide) rfl rfl rfl (Nat.le_of_ble_eq_true rfl) (fun K hl0 hD0 hB0 hM hd0 hr => ?_)
  subst hl0 hD0 hB0 hd0
  have ho : (k_M K).1.cls = "PegBands$Reader" := by rw [hM]; rfl
  have hT : (k_M K).2.2.2.1 = none := by rw [hM]
  refine (show Sx K cX5_run 0 [some (.ref a0), some (.int a1), none] [] h (f_X5_run F c h a0 a1) (fun w => w = h1) from ?_) _ e rfl
  clear e
  unfold f_X5_run
  refine S_iconst_ 1 (dc_X5_run 0 rfl) rfl ?_
  refine S_istore_n (L' := [some (.ref a0), some (.int a1), some (.int 1)]) (dc_X5_run 1 rfl) rfl ?_
  refine S_aload_n (dc_X5_run 2 rfl) rfl ?_
  refine S_iconst_ 0 (dc_X5_run 3 rfl) rfl ?_
  refine S_putI (dc_X5_run 4 rfl) ho (fl_X5_57 hc).1 (fl_X5_57 hc).2.1 (Or.inl (fl_X5_57 hc).2.2.1) (by rcases hc with rfl | rfl | rfl <;> rfl) (by rcases hc with rfl | rfl | rfl <;> rfl) (fun h4 e4 => ?_)
  refine S_aload_n (dc_X5_run 5 rfl) rfl ?_
  refine S_lconst_ 0 (dc_X5_run 6 rfl) rfl ?_
  refine S_putJ (dc_X5_run 7 rfl) ho (fl_X5_60 hc).1 (fl_X5_60 hc).2.1 (Or.inl (fl_X5_60 hc).2.2.1) (by rcases hc with rfl | rfl | rfl <;> rfl) (by rcases hc with rfl | rfl | rfl <;> rfl) (fun h9 e9 => ?_)
  refine Sx.regK2 (pc2 := 132) (L2 := fun (x2_132_1 : Int32) (h132_1 : e_H) => [some (.ref a0), some (.int a1), some (.int x2_132_1)]) (st2 := fun (x2_132_1 : Int32) (h132_1 : e_H) => []) (h2 := fun (x2_132_1 : Int32) (h132_1 : e_H) => h132_1) ?_ (fun Q1 hK1 => ?_)
  · intro x2_132_1 h132_1
    show Sx K cX5_run 132 [some (.ref a0), some (.int a1), some (.int x2_132_1)] [] h132_1 _ _
    refine S_aload_n (dc_X5_run 72 rfl) rfl ?_
    refine S_aload_n (dc_X5_run 73 rfl) rfl ?_
    refine S_getI (dc_X5_run 74 rfl) ho (fl_X5_19 hc).1 (fl_X5_19 hc).2.1 (fun x134 e134 => ?_)
    refine S_aload_n (dc_X5_run 75 rfl) rfl ?_
    refine S_getI (dc_X5_run 76 rfl) ho (fl_X5_40 hc).1 (fl_X5_40 hc).2.1 (fun x138 e138 => ?_)
    refine S_isub (dc_X5_run 77 rfl) ?_
    refine S_putI (dc_X5_run 78 rfl) ho (fl_X5_64 hc).1 (fl_X5_64 hc).2.1 (Or.inl (fl_X5_64 hc).2.2.1) (by rcases hc with rfl | rfl | rfl <;> rfl) (by rcases hc with rfl | rfl | rfl <;> rfl) (fun h142 e142 => ?_)
    refine S_aload_n (dc_X5_run 79 rfl) rfl ?_
    refine S_iload_n (dc_X5_run 80 rfl) rfl ?_
    refine Sx.regK1 (pc2 := 180) (L2 := fun (s180_7 : Int32) => [none, none, none]) (st2 := fun (s180_7 : Int32) => [.int s180_7, .ref a0]) (h2 := fun (s180_7 : Int32) => h142) ?_ (fun Q7 hK7 => ?_)
    · intro s180_7
      show Sx K cX5_run 180 [none, none, none] [.int s180_7, .ref a0] h142 _ _
      refine S_putI (dc_X5_run 97 rfl) ho (fl_X5_43 hc).1 (fl_X5_43 hc).2.1 (Or.inl (fl_X5_43 hc).2.2.1) (by rcases hc with rfl | rfl | rfl <;> rfl) (by rcases hc with rfl | rfl | rfl <;> rfl) (fun h180 e180 => ?_)
      exact S_vret (dc_X5_run 98 rfl) hT (fun q => by cases q; exact hr)
    · have hK7 : ∀ (s180_7 : Int32), Sx K cX5_run 180 [none, none, none] [.int s180_7, .ref a0] h142 (some s180_7) Q7 := hK7
      refine Sx.regKE0 (pc2 := 167) (L2 := [none, none, none]) (st2 := [.ref a0]) (h2 := h142) ?_ (fun Q8 hK8 hE8 => ?_)
      · skip
        refine S_iconst_ 4 (dc_X5_run 90 rfl) rfl ?_
        refine S_goto 180 (dc_X5_run 91 rfl) rfl ?_
        exact hK7 4
      · have hK8 : Sx K cX5_run 167 [none, none, none] [.ref a0] h142 (some (.ok ())) Q8 := hK8
        refine S_if_eq 167 (dc_X5_run 81 rfl) rfl (fun c147 => ?_) (fun c147 => ?_)
        · refine Sx.cut [false, false, false] ?_
          exact hK8
        · refine S_aload_n (dc_X5_run 82 rfl) rfl ?_
          refine S_getI (dc_X5_run 83 rfl) ho (fl_X5_64 hc).1 (fl_X5_64 hc).2.1 (fun x151 e151 => ?_)
          refine S_iload_n (dc_X5_run 84 rfl) rfl ?_
          refine Sx.regK1 (pc2 := 164) (L2 := fun (s164_9 : Int32) => [none, some (.int a1), none]) (st2 := fun (s164_9 : Int32) => [.int s164_9, .int x151, .ref a0]) (h2 := fun (s164_9 : Int32) => h142) ?_ (fun Q9 hK9 => ?_)
          · intro s164_9
            show Sx K cX5_run 164 [none, some (.int a1), none] [.int s164_9, .int x151, .ref a0] h142 _ _
            refine S_icmp_le 171 (dc_X5_run 89 rfl) rfl (fun c164 => ?_) (fun c164 => ?_)
            · refine S_iload_n (dc_X5_run 92 rfl) rfl ?_
              refine S_if_eq 179 (dc_X5_run 93 rfl) rfl (fun c172 => ?_) (fun c172 => ?_)
              · refine S_iconst_ 2 (dc_X5_run 96 rfl) rfl ?_
                refine Sx.cut [true, false, true] ?_
                refine Sx.err hE8 ?_
                exact hK7 2
              · refine S_iconst_ 1 (dc_X5_run 94 rfl) rfl ?_
                refine S_goto 180 (dc_X5_run 95 rfl) rfl ?_
                refine Sx.cut [true, false, true] ?_
                refine Sx.err hE8 ?_
                exact hK7 1
            · refine Sx.cut [true, false, true] ?_
              exact hK8
          · have hK9 : ∀ (s164_9 : Int32), Sx K cX5_run 164 [none, some (.int a1), none] [.int s164_9, .int x151, .ref a0] h142 (some s164_9) Q9 := hK9
            refine S_if_eq 163 (dc_X5_run 85 rfl) rfl (fun c155 => ?_) (fun c155 => ?_)
            · refine S_iconst_ 3 (dc_X5_run 88 rfl) rfl ?_
              refine Sx.cut [false, true, false] ?_
              exact hK9 3
            · refine S_bipush_ 7 (dc_X5_run 86 rfl) rfl ?_
              refine S_goto 164 (dc_X5_run 87 rfl) rfl ?_
              refine Sx.cut [false, true, false] ?_
              exact hK9 7
  · have hK1 : ∀ (x2_132_1 : Int32) (h132_1 : e_H), Sx K cX5_run 132 [some (.ref a0), some (.int a1), some (.int x2_132_1)] [] h132_1 (some (x2_132_1, h132_1)) Q1 := hK1
    have ih1 : ∀ (n : Nat) (x2_12 : Int32) (h_12 : e_H), Sx K cX5_run 12 [some (.ref a0), some (.int a1), some (.int x2_12)] [] h_12 (lp_X5_run_12 F c a0 a1 n x2_12 h_12) Q1 := by
      intro n
      induction n with
      | zero => intro x2_12 h_12; exact Sx.none
      | succ n ih1 =>
        intro x2_12 h_12
        rw [lp_X5_run_12.eq_2]
        refine S_aload_n (dc_X5_run 8 rfl) rfl ?_
        refine S_aload_n (dc_X5_run 9 rfl) rfl ?_
        refine Sx.ask (fun _ i14 => ?_)
        obtain ⟨qq14, hq14, hs14⟩ := rs_X5_peek hc
        refine S_roI (d := k_d K - 1) (e_callV (b := a0) (As := []) (rest := [.ref a0]) ok_X5_peek rfl (Nat.le_of_ble_eq_true rfl) (dc_X5_run 10 rfl) ho q607 q609 hq14 hs14 (e_is_of i14) rfl (Nat.le_of_ble_eq_true rfl)) (by omega) (fun _ e => ct_X5_peek hc (by omega) e) (fun x14 e14 => ?_)
        obtain ⟨qq17, hq17, hs17⟩ := rs_X5_isLetter hc
        refine S_roI (d := k_d K - 1) (e_callV (b := a0) (As := [.int x14]) (rest := []) ok_X5_isLetter rfl (Nat.le_of_ble_eq_true rfl) (dc_X5_run 11 rfl) ho q611 q613 hq17 hs17 (e_is_of i14) rfl (Nat.le_of_ble_eq_true rfl)) (by omega) (fun _ e => ct_X5_isLetter hc (by omega) e) (fun x17 e17 => ?_)
        refine Sx.regKE0 (pc2 := 34) (L2 := [some (.ref a0), some (.int a1), some (.int x2_12)]) (st2 := []) (h2 := h_12) ?_ (fun Q2 hK2 hE2 => ?_)
        · skip
          refine S_iload_n (dc_X5_run 18 rfl) rfl ?_
          refine Sx.regK1 (pc2 := 55) (L2 := fun (s55_3 : Int32) => [some (.ref a0), some (.int a1), none]) (st2 := fun (s55_3 : Int32) => [.int s55_3]) (h2 := fun (s55_3 : Int32) => h_12) ?_ (fun Q3 hK3 => ?_)
          · intro s55_3
            show Sx K cX5_run 55 [some (.ref a0), some (.int a1), none] [.int s55_3] h_12 _ _
            refine S_istore_n (L' := [some (.ref a0), some (.int a1), some (.int s55_3)]) (dc_X5_run 29 rfl) rfl ?_
            refine S_aload_n (dc_X5_run 30 rfl) rfl ?_
            refine S_getI (dc_X5_run 31 rfl) ho (fl_X5_19 hc).1 (fl_X5_19 hc).2.1 (fun x57 e57 => ?_)
            refine S_aload_n (dc_X5_run 32 rfl) rfl ?_
            refine S_getI (dc_X5_run 33 rfl) ho (fl_X5_40 hc).1 (fl_X5_40 hc).2.1 (fun x61 e61 => ?_)
            refine S_isub (dc_X5_run 34 rfl) ?_
            refine S_bipush_ 7 (dc_X5_run 35 rfl) rfl ?_
            refine Sx.regK1 (pc2 := 87) (L2 := fun (h87_5 : e_H) => [some (.ref a0), some (.int a1), some (.int s55_3)]) (st2 := fun (h87_5 : e_H) => []) (h2 := fun (h87_5 : e_H) => h87_5) ?_ (fun Q5 hK5 => ?_)
            · intro h87_5
              show Sx K cX5_run 87 [some (.ref a0), some (.int a1), some (.int s55_3)] [] h87_5 _ _
              refine S_aload_n (dc_X5_run 47 rfl) rfl ?_
              refine S_getI (dc_X5_run 48 rfl) ho (fl_X5_19 hc).1 (fl_X5_19 hc).2.1 (fun x88 e88 => ?_)
              refine S_aload_n (dc_X5_run 49 rfl) rfl ?_
              refine S_getI (dc_X5_run 50 rfl) ho (fl_X5_40 hc).1 (fl_X5_40 hc).2.1 (fun x92 e92 => ?_)
              refine S_isub (dc_X5_run 51 rfl) ?_
              refine S_iconst_ 3 (dc_X5_run 52 rfl) rfl ?_
              refine Sx.regK1 (pc2 := 119) (L2 := fun (h119_6 : e_H) => [some (.ref a0), some (.int a1), some (.int s55_3)]) (st2 := fun (h119_6 : e_H) => []) (h2 := fun (h119_6 : e_H) => h119_6) ?_ (fun Q6 hK6 => ?_)
              · intro h119_6
                show Sx K cX5_run 119 [some (.ref a0), some (.int a1), some (.int s55_3)] [] h119_6 _ _
                refine S_aload_n (dc_X5_run 65 rfl) rfl ?_
                refine S_dup (dc_X5_run 66 rfl) rfl ?_
                refine S_getI (dc_X5_run 67 rfl) ho (fl_X5_19 hc).1 (fl_X5_19 hc).2.1 (fun x121 e121 => ?_)
                refine S_iconst_ 1 (dc_X5_run 68 rfl) rfl ?_
                refine S_iadd (dc_X5_run 69 rfl) ?_
                refine S_putI (dc_X5_run 70 rfl) ho (fl_X5_19 hc).1 (fl_X5_19 hc).2.1 (Or.inl (fl_X5_19 hc).2.2.1) (by rcases hc with rfl | rfl | rfl <;> rfl) (by rcases hc with rfl | rfl | rfl <;> rfl) (fun h126 e126 => ?_)
                refine S_goto 12 (dc_X5_run 71 rfl) rfl ?_
                exact ih1 s55_3 h126
              · have hK6 : ∀ (h119_6 : e_H), Sx K cX5_run 119 [some (.ref a0), some (.int a1), some (.int s55_3)] [] h119_6 (some h119_6) Q6 := hK6
                refine S_icmp_ge 119 (dc_X5_run 53 rfl) rfl (fun c97 => ?_) (fun c97 => ?_)
                · exact hK6 h87_5
                · refine S_aload_n (dc_X5_run 54 rfl) rfl ?_
                  refine S_bipush_ 10 (dc_X5_run 55 rfl) rfl ?_
                  refine S_aload_n (dc_X5_run 56 rfl) rfl ?_
                  refine S_getI (dc_X5_run 57 rfl) ho (fl_X5_57 hc).1 (fl_X5_57 hc).2.1 (fun x104 e104 => ?_)
                  refine S_imul (dc_X5_run 58 rfl) ?_
                  refine S_aload_n (dc_X5_run 59 rfl) rfl ?_
                  obtain ⟨qq109, hq109, hs109⟩ := rs_X5_peek hc
                  refine S_roI (d := k_d K - 1) (e_callV (b := a0) (As := []) (rest := [.int (10 * x104), .ref a0]) ok_X5_peek rfl (Nat.le_of_ble_eq_true rfl) (dc_X5_run 60 rfl) ho q607 q609 hq109 hs109 (e_fI_of e88).1 rfl (Nat.le_of_ble_eq_true rfl)) (by omega) (fun _ e => ct_X5_peek hc (by omega) e) (fun x109 e109 => ?_)
                  refine S_iadd (dc_X5_run 61 rfl) ?_
                  refine S_bipush_ 48 (dc_X5_run 62 rfl) rfl ?_
                  refine S_isub (dc_X5_run 63 rfl) ?_
                  refine S_putI (dc_X5_run 64 rfl) ho (fl_X5_57 hc).1 (fl_X5_57 hc).2.1 (Or.inl (fl_X5_57 hc).2.2.1) (by rcases hc with rfl | rfl | rfl <;> rfl) (by rcases hc with rfl | rfl | rfl <;> rfl) (fun h116 e116 => ?_)
                  exact hK6 h116
            · have hK5 : ∀ (h87_5 : e_H), Sx K cX5_run 87 [some (.ref a0), some (.int a1), some (.int s55_3)] [] h87_5 (some h87_5) Q5 := hK5
              refine S_icmp_ge 87 (dc_X5_run 36 rfl) rfl (fun c67 => ?_) (fun c67 => ?_)
              · exact hK5 h_12
              · refine S_aload_n (dc_X5_run 37 rfl) rfl ?_
                refine S_aload_n (dc_X5_run 38 rfl) rfl ?_
                refine S_getJ (dc_X5_run 39 rfl) ho (fl_X5_60 hc).1 (fl_X5_60 hc).2.1 (fun x72 e72 => ?_)
                refine S_bipush_ 8 (dc_X5_run 40 rfl) rfl ?_
                refine S_lshl (dc_X5_run 41 rfl) ?_
                refine S_aload_n (dc_X5_run 42 rfl) rfl ?_
                obtain ⟨qq79, hq79, hs79⟩ := rs_X5_peek hc
                refine S_roI (d := k_d K - 1) (e_callV (b := a0) (As := []) (rest := [.long (x72 <<< ((8 : Int32).toInt64 &&& 63)), .ref a0]) ok_X5_peek rfl (Nat.le_of_ble_eq_true rfl) (dc_X5_run 43 rfl) ho q607 q609 hq79 hs79 (e_is_of i14) rfl (Nat.le_of_ble_eq_true rfl)) (by omega) (fun _ e => ct_X5_peek hc (by omega) e) (fun x79 e79 => ?_)
                refine S_i2l (dc_X5_run 44 rfl) ?_
                refine S_lor (dc_X5_run 45 rfl) ?_
                refine S_putJ (dc_X5_run 46 rfl) ho (fl_X5_60 hc).1 (fl_X5_60 hc).2.1 (Or.inl (fl_X5_60 hc).2.2.1) (by rcases hc with rfl | rfl | rfl <;> rfl) (by rcases hc with rfl | rfl | rfl <;> rfl) (fun h84 e84 => ?_)
                exact hK5 h84
          · have hK3 : ∀ (s55_3 : Int32), Sx K cX5_run 55 [some (.ref a0), some (.int a1), none] [.int s55_3] h_12 (some s55_3) Q3 := hK3
            refine Sx.regKE0 (pc2 := 54) (L2 := [some (.ref a0), some (.int a1), none]) (st2 := []) (h2 := h_12) ?_ (fun Q4 hK4 hE4 => ?_)
            · skip
              refine S_iconst_ 0 (dc_X5_run 28 rfl) rfl ?_
              exact hK3 0
            · have hK4 : Sx K cX5_run 54 [some (.ref a0), some (.int a1), none] [] h_12 (some (.ok ())) Q4 := hK4
              refine S_if_eq 54 (dc_X5_run 19 rfl) rfl (fun c35 => ?_) (fun c35 => ?_)
              · refine Sx.cut [true, true, false] ?_
                exact hK4
              · refine S_aload_n (dc_X5_run 20 rfl) rfl ?_
                refine S_aload_n (dc_X5_run 21 rfl) rfl ?_
                obtain ⟨qq40, hq40, hs40⟩ := rs_X5_peek hc
                refine S_roI (d := k_d K - 1) (e_callV (b := a0) (As := []) (rest := [.ref a0]) ok_X5_peek rfl (Nat.le_of_ble_eq_true rfl) (dc_X5_run 22 rfl) ho q607 q609 hq40 hs40 (e_is_of i14) rfl (Nat.le_of_ble_eq_true rfl)) (by omega) (fun _ e => ct_X5_peek hc (by omega) e) (fun x40 e40 => ?_)
                obtain ⟨qq43, hq43, hs43⟩ := rs_X5_isLetter hc
                refine S_roI (d := k_d K - 1) (e_callV (b := a0) (As := [.int x40]) (rest := []) ok_X5_isLetter rfl (Nat.le_of_ble_eq_true rfl) (dc_X5_run 23 rfl) ho q611 q613 hq43 hs43 (e_is_of i14) rfl (Nat.le_of_ble_eq_true rfl)) (by omega) (fun _ e => ct_X5_isLetter hc (by omega) e) (fun x43 e43 => ?_)
                refine S_iload_n (dc_X5_run 24 rfl) rfl ?_
                refine S_icmp_ne 54 (dc_X5_run 25 rfl) rfl (fun c47 => ?_) (fun c47 => ?_)
                · refine Sx.cut [true, true, false] ?_
                  exact hK4
                · refine S_iconst_ 1 (dc_X5_run 26 rfl) rfl ?_
                  refine S_goto 55 (dc_X5_run 27 rfl) rfl ?_
                  refine Sx.cut [true, true, false] ?_
                  refine Sx.err hE4 ?_
                  exact hK3 1
        · have hK2 : Sx K cX5_run 34 [some (.ref a0), some (.int a1), some (.int x2_12)] [] h_12 (some (.ok ())) Q2 := hK2
          refine S_if_ne 34 (dc_X5_run 12 rfl) rfl (fun c20 => ?_) (fun c20 => ?_)
          · exact hK2
          · refine S_aload_n (dc_X5_run 13 rfl) rfl ?_
            refine S_aload_n (dc_X5_run 14 rfl) rfl ?_
            obtain ⟨qq25, hq25, hs25⟩ := rs_X5_peek hc
            refine S_roI (d := k_d K - 1) (e_callV (b := a0) (As := []) (rest := [.ref a0]) ok_X5_peek rfl (Nat.le_of_ble_eq_true rfl) (dc_X5_run 15 rfl) ho q607 q609 hq25 hs25 (e_is_of i14) rfl (Nat.le_of_ble_eq_true rfl)) (by omega) (fun _ e => ct_X5_peek hc (by omega) e) (fun x25 e25 => ?_)
            obtain ⟨qq28, hq28, hs28⟩ := rs_X5_isDigit hc
            refine S_roI (d := k_d K - 1) (e_callV (b := a0) (As := [.int x25]) (rest := []) ok_X5_isDigit rfl (Nat.le_of_ble_eq_true rfl) (dc_X5_run 16 rfl) ho q618 q620 hq28 hs28 (e_is_of i14) rfl (Nat.le_of_ble_eq_true rfl)) (by omega) (fun _ e => ct_X5_isDigit hc (by omega) e) (fun x28 e28 => ?_)
            refine S_if_eq 132 (dc_X5_run 17 rfl) rfl (fun c31 => ?_) (fun c31 => ?_)
            · refine Sx.err hE2 ?_
              exact hK1 x2_12 h_12
            · exact hK2
    exact ih1 F 1 h9
abbrev cX5_next : ByteArray := prog_15_method_6_code
def yX5_next : MethodName := ⟨"PegBands$Reader", "next", "()V"⟩
def tb_X5_next : List (Nat × Instr × Nat) := [(0, .aload_n 0, 1), (1, .invokevirtual 36, 3), (4, .bipush 32, 2), (6, .if_icmp .eq 12, 3), (9, .aload_n 0, 1), (10, .invokevirtual 36, 3), (13, .bipush 10, 2), (15, .if_icmp .ne 16, 3), (18, .aload_n 0, 1), (19, .dup, 1), (20, .getfield 19, 3), (23, .iconst 1, 1), (24, .iadd, 1), (25, .putfield 19, 3), (28, .goto (-28), 3), (31, .aload_n 0, 1), (32, .aload_n 0, 1), (33, .getfield 19, 3), (36, .putfield 40, 3), (39, .aload_n 0, 1), (40, .getfield 3, 3), (43, .getfield 25, 3), (46, .aload_n 0, 1), (47, .getfield 15, 3), (50, .if_icmp .le 28, 3), (53, .aload_n 0, 1), (54, .getfield 19, 3), (57, .aload_n 0, 1), (58, .getfield 15, 3), (61, .if_icmp .lt 17, 3), (64, .aload_n 0, 1), (65, .aload_n 0, 1), (66, .getfield 15, 3), (69, .putfield 40, 3), (72, .aload_n 0, 1), (73, .iconst 4, 1), (74, .putfield 43, 3), (77, .return_, 1), (78, .aload_n 0, 1), (79, .invokevirtual 36, 3), (82, .istore_n 1, 1), (83, .iload_n 1, 1), (84, .ifCond .ge 11, 3), (87, .aload_n 0, 1), (88, .iconst 0, 1), (89, .putfield 43, 3), (92, .goto 90, 3), (95, .aload_n 0, 1), (96, .iload_n 1, 1), (97, .invokevirtual 46, 3), (100, .ifCond .ne 11, 3), (103, .aload_n 0, 1), (104, .iload_n 1, 1), (105, .invokevirtual 50, 3), (108, .ifCond .eq 15, 3), (111, .aload_n 0, 1), (112, .aload_n 0, 1), (113, .iload_n 1, 1), (114, .invokevirtual 46, 3), (117, .invokevirtual 53, 3), (120, .goto 62, 3), (123, .aload_n 0, 1), (124, .iload_n 1, 1), (125, .bipush 59, 2), (127, .if_icmp .eq 32, 3), (130, .iload_n 1, 1), (131, .bipush 45, 2), (133, .if_icmp .eq 26, 3), (136, .iload_n 1, 1), (137, .bipush 40, 2), (139, .if_icmp .eq 20, 3), (142, .iload_n 1, 1), (143, .bipush 41, 2), (145, .if_icmp .eq 14, 3), (148, .iload_n 1, 1), (149, .bipush 60, 2), (151, .bipush 62, 2), (153, .invokestatic 32, 3), (156, .ifCond .eq 7, 3), (159, .iconst 3, 1), (160, .goto 4, 3), (163, .iconst 4, 1), (164, .putfield 43, 3), (167, .aload_n 0, 1), (168, .iload_n 1, 1), (169, .putfield 57, 3), (172, .aload_n 0, 1), (173, .dup, 1), (174, .getfield 19, 3), (177, .iconst 1, 1), (178, .iadd, 1), (179, .putfield 19, 3), (182, .return_, 1)]
theorem tk_X5_next : ∀ q ∈ tb_X5_next, decode cX5_next q.1 = .ok q.2 := by decide +kernel
theorem dc_X5_next (k : Nat) {pc n : Nat} {i : Instr} (h : tb_X5_next[k]? = some (pc, i, n)) : decode cX5_next pc = .ok (i, n) := tk_X5_next (pc, i, n) (List.mem_of_getElem? h)
abbrev mX5_next : e_M := (yX5_next, cX5_next, 2, none, [])
theorem ok_X5_next : e_mok mX5_next 0 := ⟨q606, q114, by decide +kernel, fun sig h => by cases h; rfl⟩
theorem rs_X5_run {c : Nat} (hc : c = 4 ∨ c = 5 ∨ c = 7) : ∃ q : vw_C, e_cl[c]? = some q ∧ e_sel q.1 yX5_run yX5_run := by
  rcases hc with rfl | rfl | rfl
  · exact ⟨_, rfl, e_sel.priv (by decide +kernel)⟩
  · exact ⟨_, rfl, e_sel.priv (by decide +kernel)⟩
  · exact ⟨_, rfl, e_sel.priv (by decide +kernel)⟩
def lp_X5_next_0 (F : Nat) (c : Nat) (a0 : Nat) : Nat → e_H → Option (e_H)
  | 0, _ => none
  | n + 1, h_0 =>
    Option.bind (e_is h_0 a0 c) (fun _ =>
    Option.bind (f_X5_peek c h_0 a0) (fun x1 =>
    e_bE (
        if x1 = 32 then
          some (.ok ())
        else
          Option.bind (f_X5_peek c h_0 a0) (fun x10 =>
          if x10 = 10 then
            some (.ok ())
          else
            some (.error h_0))
      : Option (Except e_H Unit)) (fun _ =>
    Option.bind (e_fI h_0 a0 c 1) (fun x20 =>
    Option.bind (e_gI h_0 a0 c 1 (x20 + 1)) (fun h25 =>
    lp_X5_next_0 F c a0 n h25)))))
def f_X5_next (F : Nat) (c : Nat) (h : e_H) (a0 : Nat) : Option e_H :=
  Option.bind (
      lp_X5_next_0 F c a0 F h
    : Option (e_H)) (fun h31_1 =>
  Option.bind (e_fI h31_1 a0 c 1) (fun x33 =>
  Option.bind (e_gI h31_1 a0 c 2 x33) (fun h36 =>
  Option.bind (e_fA h36 a0 c 7) (fun x40 =>
  Option.bind (e_fI h36 x40 0 2) (fun x43 =>
  Option.bind (e_fI h36 a0 c 0) (fun x47 =>
  e_bE (
      if x43 ≤ x47 then
        some (.ok h36)
      else
        Option.bind (e_fI h36 a0 c 1) (fun x54 =>
        Option.bind (e_fI h36 a0 c 0) (fun x58 =>
        if x54 < x58 then
          some (.ok h36)
        else
          Option.bind (e_fI h36 a0 c 0) (fun x66 =>
          Option.bind (e_gI h36 a0 c 2 x66) (fun h69 =>
          Option.bind (e_gI h69 a0 c 3 4) (fun h74 =>
          some (.error h74))))))
    : Option (Except e_H e_H)) (fun h78_3 =>
  Option.bind (e_is h78_3 a0 c) (fun _ =>
  Option.bind (f_X5_peek c h78_3 a0) (fun x79 =>
  if 0 ≤ x79 then
    Option.bind (f_X5_isLetter c a0 x79) (fun x97 =>
    e_bE (
        if x97 = 0 then
          Option.bind (f_X5_isDigit c a0 x79) (fun x105 =>
          if x105 = 0 then
            Option.bind (
                e_bE (
                    if x79 = 59 then
                      some (.ok ())
                    else
                      if x79 = 45 then
                        some (.ok ())
                      else
                        if x79 = 40 then
                          some (.ok ())
                        else
                          if x79 = 41 then
                            some (.ok ())
                          else
                            Option.bind (f_X1_isIn x79 60 62) (fun x153 =>
                            if x153 = 0 then
                              some (.error 4)
                            else
                              some (.ok ()))
                  : Option (Except Int32 Unit)) (fun _ =>
                some 3)
              : Option (Int32)) (fun s164_5 =>
            Option.bind (e_gI h78_3 a0 c 3 s164_5) (fun h164 =>
            Option.bind (e_gI h164 a0 c 4 x79) (fun h169 =>
            Option.bind (e_fI h169 a0 c 1) (fun x174 =>
            Option.bind (e_gI h169 a0 c 1 (x174 + 1)) (fun h179 =>
            some (.error h179))))))
          else
            some (.ok h78_3))
        else
          some (.ok h78_3)
      : Option (Except e_H e_H)) (fun h111_4 =>
    Option.bind (e_is h111_4 a0 c) (fun _ =>
    Option.bind (f_X5_isLetter c a0 x79) (fun x114 =>
    Option.bind (f_X5_run F c h111_4 a0 x114) (fun h117 =>
    some h117)))))
  else
    Option.bind (e_gI h78_3 a0 c 3 0) (fun h89 =>
    some h89))))))))))
set_option maxHeartbeats 4000000 in
set_option maxRecDepth 100000 in
theorem ct_X5_next {l : Launch} {D : e_D} {B : Heap} {F : Nat} {c : Nat} {d : Nat} {h : e_H} {a0 : Nat} {h1 : e_H} (hc : c = 4 ∨ c = 5 ∨ c = 7) (hd : 4 ≤ d) (e : f_X5_next F c h a0 = some h1) : e_Run l D B d mX5_next [.ref a0] h (.ok none, h1) := by
  refine e_start [some (.ref a0), none] (by decide) rfl rfl rfl (Nat.le_of_ble_eq_true rfl) (fun K hl0 hD0 hB0 hM hd0 hr => ?_)
  subst hl0 hD0 hB0 hd0
  have ho : (k_M K).1.cls = "PegBands$Reader" := by rw [hM]; rfl
  have hT : (k_M K).2.2.2.1 = none := by rw [hM]
  refine (show Sx K cX5_next 0 [some (.ref a0), none] [] h (f_X5_next F c h a0) (fun w => w = h1) from ?_) _ e rfl
  clear e
  unfold f_X5_next
  refine Sx.regK1 (pc2 := 31) (L2 := fun (h31_1 : e_H) => [some (.ref a0), none]) (st2 := fun (h31_1 : e_H) => []) (h2 := fun (h31_1 : e_H) => h31_1) ?_ (fun Q1 hK1 => ?_)
  · intro h31_1
    show Sx K cX5_next 31 [some (.ref a0), none] [] h31_1 _ _
    refine S_aload_n (dc_X5_next 15 rfl) rfl ?_
    refine S_aload_n (dc_X5_next 16 rfl) rfl ?_
    refine S_getI (dc_X5_next 17 rfl) ho (fl_X5_19 hc).1 (fl_X5_19 hc).2.1 (fun x33 e33 => ?_)
    refine S_putI (dc_X5_next 18 rfl) ho (fl_X5_40 hc).1 (fl_X5_40 hc).2.1 (Or.inl (fl_X5_40 hc).2.2.1) (by rcases hc with rfl | rfl | rfl <;> rfl) (by rcases hc with rfl | rfl | rfl <;> rfl) (fun h36 e36 => ?_)
    refine S_aload_n (dc_X5_next 19 rfl) rfl ?_
    refine S_getA (dc_X5_next 20 rfl) ho (fl_X5_3 hc).1 (fl_X5_3 hc).2.1 (fun x40 e40 => ?_)
    refine S_getI (dc_X5_next 21 rfl) ho fl_X5_25_0_2 (fun _ _ => rfl) (fun x43 e43 => ?_)
    refine S_aload_n (dc_X5_next 22 rfl) rfl ?_
    refine S_getI (dc_X5_next 23 rfl) ho (fl_X5_15 hc).1 (fl_X5_15 hc).2.1 (fun x47 e47 => ?_)
    refine Sx.regKE1 (pc2 := 78) (L2 := fun (h78_3 : e_H) => [some (.ref a0), none]) (st2 := fun (h78_3 : e_H) => []) (h2 := fun (h78_3 : e_H) => h78_3) ?_ (fun Q3 hK3 hE3 => ?_)
    · intro h78_3
      show Sx K cX5_next 78 [some (.ref a0), none] [] h78_3 _ _
      refine S_aload_n (dc_X5_next 38 rfl) rfl ?_
      refine Sx.ask (fun _ i79 => ?_)
      obtain ⟨qq79, hq79, hs79⟩ := rs_X5_peek hc
      refine S_roI (d := k_d K - 1) (e_callV (b := a0) (As := []) (rest := []) ok_X5_peek rfl (Nat.le_of_ble_eq_true rfl) (dc_X5_next 39 rfl) ho q607 q609 hq79 hs79 (e_is_of i79) rfl (Nat.le_of_ble_eq_true rfl)) (by omega) (fun _ e => ct_X5_peek hc (by omega) e) (fun x79 e79 => ?_)
      refine S_istore_n (L' := [some (.ref a0), some (.int x79)]) (dc_X5_next 40 rfl) rfl ?_
      refine S_iload_n (dc_X5_next 41 rfl) rfl ?_
      refine S_if_ge 95 (dc_X5_next 42 rfl) rfl (fun c84 => ?_) (fun c84 => ?_)
      · refine S_aload_n (dc_X5_next 47 rfl) rfl ?_
        refine S_iload_n (dc_X5_next 48 rfl) rfl ?_
        obtain ⟨qq97, hq97, hs97⟩ := rs_X5_isLetter hc
        refine S_roI (d := k_d K - 1) (e_callV (b := a0) (As := [.int x79]) (rest := []) ok_X5_isLetter rfl (Nat.le_of_ble_eq_true rfl) (dc_X5_next 49 rfl) ho q611 q613 hq97 hs97 (e_is_of i79) rfl (Nat.le_of_ble_eq_true rfl)) (by omega) (fun _ e => ct_X5_isLetter hc (by omega) e) (fun x97 e97 => ?_)
        refine Sx.regKE1 (pc2 := 111) (L2 := fun (h111_4 : e_H) => [some (.ref a0), some (.int x79)]) (st2 := fun (h111_4 : e_H) => []) (h2 := fun (h111_4 : e_H) => h111_4) ?_ (fun Q4 hK4 hE4 => ?_)
        · intro h111_4
          show Sx K cX5_next 111 [some (.ref a0), some (.int x79)] [] h111_4 _ _
          refine S_aload_n (dc_X5_next 55 rfl) rfl ?_
          refine S_aload_n (dc_X5_next 56 rfl) rfl ?_
          refine S_iload_n (dc_X5_next 57 rfl) rfl ?_
          refine Sx.ask (fun _ i114 => ?_)
          obtain ⟨qq114, hq114, hs114⟩ := rs_X5_isLetter hc
          refine S_roI (d := k_d K - 1) (e_callV (b := a0) (As := [.int x79]) (rest := [.ref a0]) ok_X5_isLetter rfl (Nat.le_of_ble_eq_true rfl) (dc_X5_next 58 rfl) ho q611 q613 hq114 hs114 (e_is_of i114) rfl (Nat.le_of_ble_eq_true rfl)) (by omega) (fun _ e => ct_X5_isLetter hc (by omega) e) (fun x114 e114 => ?_)
          obtain ⟨qq117, hq117, hs117⟩ := rs_X5_run hc
          refine S_rwV (d := k_d K - 1) (e_callV (b := a0) (As := [.int x114]) (rest := []) ok_X5_run rfl (Nat.le_of_ble_eq_true rfl) (dc_X5_next 59 rfl) ho q622 q624 hq117 hs117 (e_is_of i114) rfl (Nat.le_of_ble_eq_true rfl)) (by omega) (fun _ e => ct_X5_run hc (by omega) e) (fun h117 e117 => ?_)
          refine S_goto 182 (dc_X5_next 60 rfl) rfl ?_
          exact S_vret (dc_X5_next 92 rfl) hT (fun q => by cases q; exact hr)
        · have hK4 : ∀ (h111_4 : e_H), Sx K cX5_next 111 [some (.ref a0), some (.int x79)] [] h111_4 (some (.ok h111_4)) Q4 := hK4
          refine S_if_ne 111 (dc_X5_next 50 rfl) rfl (fun c100 => ?_) (fun c100 => ?_)
          · exact hK4 h78_3
          · refine S_aload_n (dc_X5_next 51 rfl) rfl ?_
            refine S_iload_n (dc_X5_next 52 rfl) rfl ?_
            obtain ⟨qq105, hq105, hs105⟩ := rs_X5_isDigit hc
            refine S_roI (d := k_d K - 1) (e_callV (b := a0) (As := [.int x79]) (rest := []) ok_X5_isDigit rfl (Nat.le_of_ble_eq_true rfl) (dc_X5_next 53 rfl) ho q618 q620 hq105 hs105 (e_is_of i79) rfl (Nat.le_of_ble_eq_true rfl)) (by omega) (fun _ e => ct_X5_isDigit hc (by omega) e) (fun x105 e105 => ?_)
            refine S_if_eq 123 (dc_X5_next 54 rfl) rfl (fun c108 => ?_) (fun c108 => ?_)
            · refine S_aload_n (dc_X5_next 61 rfl) rfl ?_
              refine S_iload_n (dc_X5_next 62 rfl) rfl ?_
              refine S_bipush_ 59 (dc_X5_next 63 rfl) rfl ?_
              refine Sx.regK1 (pc2 := 164) (L2 := fun (s164_5 : Int32) => [some (.ref a0), some (.int x79)]) (st2 := fun (s164_5 : Int32) => [.int s164_5, .ref a0]) (h2 := fun (s164_5 : Int32) => h78_3) ?_ (fun Q5 hK5 => ?_)
              · intro s164_5
                show Sx K cX5_next 164 [some (.ref a0), some (.int x79)] [.int s164_5, .ref a0] h78_3 _ _
                refine S_putI (dc_X5_next 82 rfl) ho (fl_X5_43 hc).1 (fl_X5_43 hc).2.1 (Or.inl (fl_X5_43 hc).2.2.1) (by rcases hc with rfl | rfl | rfl <;> rfl) (by rcases hc with rfl | rfl | rfl <;> rfl) (fun h164 e164 => ?_)
                refine S_aload_n (dc_X5_next 83 rfl) rfl ?_
                refine S_iload_n (dc_X5_next 84 rfl) rfl ?_
                refine S_putI (dc_X5_next 85 rfl) ho (fl_X5_57 hc).1 (fl_X5_57 hc).2.1 (Or.inl (fl_X5_57 hc).2.2.1) (by rcases hc with rfl | rfl | rfl <;> rfl) (by rcases hc with rfl | rfl | rfl <;> rfl) (fun h169 e169 => ?_)
                refine S_aload_n (dc_X5_next 86 rfl) rfl ?_
                refine S_dup (dc_X5_next 87 rfl) rfl ?_
                refine S_getI (dc_X5_next 88 rfl) ho (fl_X5_19 hc).1 (fl_X5_19 hc).2.1 (fun x174 e174 => ?_)
                refine S_iconst_ 1 (dc_X5_next 89 rfl) rfl ?_
                refine S_iadd (dc_X5_next 90 rfl) ?_
                refine S_putI (dc_X5_next 91 rfl) ho (fl_X5_19 hc).1 (fl_X5_19 hc).2.1 (Or.inl (fl_X5_19 hc).2.2.1) (by rcases hc with rfl | rfl | rfl <;> rfl) (by rcases hc with rfl | rfl | rfl <;> rfl) (fun h179 e179 => ?_)
                refine Sx.err hE4 ?_
                exact S_vret (dc_X5_next 92 rfl) hT (fun q => by cases q; exact hr)
              · have hK5 : ∀ (s164_5 : Int32), Sx K cX5_next 164 [some (.ref a0), some (.int x79)] [.int s164_5, .ref a0] h78_3 (some s164_5) Q5 := hK5
                refine Sx.regKE0 (pc2 := 159) (L2 := [some (.ref a0), some (.int x79)]) (st2 := [.ref a0]) (h2 := h78_3) ?_ (fun Q6 hK6 hE6 => ?_)
                · skip
                  refine S_iconst_ 3 (dc_X5_next 79 rfl) rfl ?_
                  refine S_goto 164 (dc_X5_next 80 rfl) rfl ?_
                  exact hK5 3
                · have hK6 : Sx K cX5_next 159 [some (.ref a0), some (.int x79)] [.ref a0] h78_3 (some (.ok ())) Q6 := hK6
                  refine S_icmp_eq 159 (dc_X5_next 64 rfl) rfl (fun c127 => ?_) (fun c127 => ?_)
                  · exact hK6
                  · refine S_iload_n (dc_X5_next 65 rfl) rfl ?_
                    refine S_bipush_ 45 (dc_X5_next 66 rfl) rfl ?_
                    refine S_icmp_eq 159 (dc_X5_next 67 rfl) rfl (fun c133 => ?_) (fun c133 => ?_)
                    · exact hK6
                    · refine S_iload_n (dc_X5_next 68 rfl) rfl ?_
                      refine S_bipush_ 40 (dc_X5_next 69 rfl) rfl ?_
                      refine S_icmp_eq 159 (dc_X5_next 70 rfl) rfl (fun c139 => ?_) (fun c139 => ?_)
                      · exact hK6
                      · refine S_iload_n (dc_X5_next 71 rfl) rfl ?_
                        refine S_bipush_ 41 (dc_X5_next 72 rfl) rfl ?_
                        refine S_icmp_eq 159 (dc_X5_next 73 rfl) rfl (fun c145 => ?_) (fun c145 => ?_)
                        · exact hK6
                        · refine S_iload_n (dc_X5_next 74 rfl) rfl ?_
                          refine S_bipush_ 60 (dc_X5_next 75 rfl) rfl ?_
                          refine S_bipush_ 62 (dc_X5_next 76 rfl) rfl ?_
                          refine S_roI (d := k_d K - 1) (e_callSN (As := [.int x79, .int 60, .int 62]) (rest := [.ref a0]) ok_X1_isIn rfl (Nat.le_of_ble_eq_true rfl) (dc_X5_next 77 rfl) ho q615 q616 rfl (Nat.le_of_ble_eq_true rfl)) (by omega) (fun _ e => ct_X1_isIn (by omega) e) (fun x153 e153 => ?_)
                          refine S_if_eq 163 (dc_X5_next 78 rfl) rfl (fun c156 => ?_) (fun c156 => ?_)
                          · refine S_iconst_ 4 (dc_X5_next 81 rfl) rfl ?_
                            refine Sx.err hE6 ?_
                            exact hK5 4
                          · exact hK6
            · exact hK4 h78_3
      · refine S_aload_n (dc_X5_next 43 rfl) rfl ?_
        refine S_iconst_ 0 (dc_X5_next 44 rfl) rfl ?_
        refine S_putI (dc_X5_next 45 rfl) ho (fl_X5_43 hc).1 (fl_X5_43 hc).2.1 (Or.inl (fl_X5_43 hc).2.2.1) (by rcases hc with rfl | rfl | rfl <;> rfl) (by rcases hc with rfl | rfl | rfl <;> rfl) (fun h89 e89 => ?_)
        refine S_goto 182 (dc_X5_next 46 rfl) rfl ?_
        exact S_vret (dc_X5_next 92 rfl) hT (fun q => by cases q; exact hr)
    · have hK3 : ∀ (h78_3 : e_H), Sx K cX5_next 78 [some (.ref a0), none] [] h78_3 (some (.ok h78_3)) Q3 := hK3
      refine S_icmp_le 78 (dc_X5_next 24 rfl) rfl (fun c50 => ?_) (fun c50 => ?_)
      · exact hK3 h36
      · refine S_aload_n (dc_X5_next 25 rfl) rfl ?_
        refine S_getI (dc_X5_next 26 rfl) ho (fl_X5_19 hc).1 (fl_X5_19 hc).2.1 (fun x54 e54 => ?_)
        refine S_aload_n (dc_X5_next 27 rfl) rfl ?_
        refine S_getI (dc_X5_next 28 rfl) ho (fl_X5_15 hc).1 (fl_X5_15 hc).2.1 (fun x58 e58 => ?_)
        refine S_icmp_lt 78 (dc_X5_next 29 rfl) rfl (fun c61 => ?_) (fun c61 => ?_)
        · exact hK3 h36
        · refine S_aload_n (dc_X5_next 30 rfl) rfl ?_
          refine S_aload_n (dc_X5_next 31 rfl) rfl ?_
          refine S_getI (dc_X5_next 32 rfl) ho (fl_X5_15 hc).1 (fl_X5_15 hc).2.1 (fun x66 e66 => ?_)
          refine S_putI (dc_X5_next 33 rfl) ho (fl_X5_40 hc).1 (fl_X5_40 hc).2.1 (Or.inl (fl_X5_40 hc).2.2.1) (by rcases hc with rfl | rfl | rfl <;> rfl) (by rcases hc with rfl | rfl | rfl <;> rfl) (fun h69 e69 => ?_)
          refine S_aload_n (dc_X5_next 34 rfl) rfl ?_
          refine S_iconst_ 4 (dc_X5_next 35 rfl) rfl ?_
          refine S_putI (dc_X5_next 36 rfl) ho (fl_X5_43 hc).1 (fl_X5_43 hc).2.1 (Or.inl (fl_X5_43 hc).2.2.1) (by rcases hc with rfl | rfl | rfl <;> rfl) (by rcases hc with rfl | rfl | rfl <;> rfl) (fun h74 e74 => ?_)
          refine Sx.err hE3 ?_
          exact S_vret (dc_X5_next 37 rfl) hT (fun q => by cases q; exact hr)
  · have hK1 : ∀ (h31_1 : e_H), Sx K cX5_next 31 [some (.ref a0), none] [] h31_1 (some h31_1) Q1 := hK1
    have ih1 : ∀ (n : Nat) (h_0 : e_H), Sx K cX5_next 0 [some (.ref a0), none] [] h_0 (lp_X5_next_0 F c a0 n h_0) Q1 := by
      intro n
      induction n with
      | zero => intro h_0; exact Sx.none
      | succ n ih1 =>
        intro h_0
        rw [lp_X5_next_0.eq_2]
        refine S_aload_n (dc_X5_next 0 rfl) rfl ?_
        refine Sx.ask (fun _ i1 => ?_)
        obtain ⟨qq1, hq1, hs1⟩ := rs_X5_peek hc
        refine S_roI (d := k_d K - 1) (e_callV (b := a0) (As := []) (rest := []) ok_X5_peek rfl (Nat.le_of_ble_eq_true rfl) (dc_X5_next 1 rfl) ho q607 q609 hq1 hs1 (e_is_of i1) rfl (Nat.le_of_ble_eq_true rfl)) (by omega) (fun _ e => ct_X5_peek hc (by omega) e) (fun x1 e1 => ?_)
        refine S_bipush_ 32 (dc_X5_next 2 rfl) rfl ?_
        refine Sx.regKE0 (pc2 := 18) (L2 := [some (.ref a0), none]) (st2 := []) (h2 := h_0) ?_ (fun Q2 hK2 hE2 => ?_)
        · skip
          refine S_aload_n (dc_X5_next 8 rfl) rfl ?_
          refine S_dup (dc_X5_next 9 rfl) rfl ?_
          refine S_getI (dc_X5_next 10 rfl) ho (fl_X5_19 hc).1 (fl_X5_19 hc).2.1 (fun x20 e20 => ?_)
          refine S_iconst_ 1 (dc_X5_next 11 rfl) rfl ?_
          refine S_iadd (dc_X5_next 12 rfl) ?_
          refine S_putI (dc_X5_next 13 rfl) ho (fl_X5_19 hc).1 (fl_X5_19 hc).2.1 (Or.inl (fl_X5_19 hc).2.2.1) (by rcases hc with rfl | rfl | rfl <;> rfl) (by rcases hc with rfl | rfl | rfl <;> rfl) (fun h25 e25 => ?_)
          refine S_goto 0 (dc_X5_next 14 rfl) rfl ?_
          exact ih1 h25
        · have hK2 : Sx K cX5_next 18 [some (.ref a0), none] [] h_0 (some (.ok ())) Q2 := hK2
          refine S_icmp_eq 18 (dc_X5_next 3 rfl) rfl (fun c6 => ?_) (fun c6 => ?_)
          · exact hK2
          · refine S_aload_n (dc_X5_next 4 rfl) rfl ?_
            obtain ⟨qq10, hq10, hs10⟩ := rs_X5_peek hc
            refine S_roI (d := k_d K - 1) (e_callV (b := a0) (As := []) (rest := []) ok_X5_peek rfl (Nat.le_of_ble_eq_true rfl) (dc_X5_next 5 rfl) ho q607 q609 hq10 hs10 (e_is_of i1) rfl (Nat.le_of_ble_eq_true rfl)) (by omega) (fun _ e => ct_X5_peek hc (by omega) e) (fun x10 e10 => ?_)
            refine S_bipush_ 10 (dc_X5_next 6 rfl) rfl ?_
            refine S_icmp_ne 31 (dc_X5_next 7 rfl) rfl (fun c15 => ?_) (fun c15 => ?_)
            · refine Sx.err hE2 ?_
              exact hK1 h_0
            · exact hK2
    exact ih1 F h
abbrev cX5_begin : ByteArray := prog_15_method_2_code
def yX5_begin : MethodName := ⟨"PegBands$Reader", "begin", "()V"⟩
def tb_X5_begin : List (Nat × Instr × Nat) := [(0, .aload_n 0, 1), (1, .iconst 0, 1), (2, .putfield 19, 3), (5, .aload_n 0, 1), (6, .invokevirtual 22, 3), (9, .return_, 1)]
theorem tk_X5_begin : ∀ q ∈ tb_X5_begin, decode cX5_begin q.1 = .ok q.2 := by decide +kernel
theorem dc_X5_begin (k : Nat) {pc n : Nat} {i : Instr} (h : tb_X5_begin[k]? = some (pc, i, n)) : decode cX5_begin pc = .ok (i, n) := tk_X5_begin (pc, i, n) (List.mem_of_getElem? h)
abbrev mX5_begin : e_M := (yX5_begin, cX5_begin, 1, none, [])
theorem ok_X5_begin : e_mok mX5_begin 0 := ⟨q599, q114, by decide +kernel, fun sig h => by cases h; rfl⟩
theorem rs_X5_next {c : Nat} (hc : c = 4 ∨ c = 5 ∨ c = 7) : ∃ q : vw_C, e_cl[c]? = some q ∧ e_sel q.1 yX5_next yX5_next := by
  rcases hc with rfl | rfl | rfl
  · exact ⟨_, rfl, e_sel.of q603⟩
  · exact ⟨_, rfl, e_sel.of q604⟩
  · exact ⟨_, rfl, e_sel.of q605⟩
def f_X5_begin (F : Nat) (c : Nat) (h : e_H) (a0 : Nat) : Option e_H :=
  Option.bind (e_gI h a0 c 1 0) (fun h2 =>
  Option.bind (e_is h2 a0 c) (fun _ =>
  Option.bind (f_X5_next F c h2 a0) (fun h6 =>
  some h6)))
set_option maxHeartbeats 4000000 in
set_option maxRecDepth 100000 in
theorem ct_X5_begin {l : Launch} {D : e_D} {B : Heap} {F : Nat} {c : Nat} {d : Nat} {h : e_H} {a0 : Nat} {h1 : e_H} (hc : c = 4 ∨ c = 5 ∨ c = 7) (hd : 5 ≤ d) (e : f_X5_begin F c h a0 = some h1) : e_Run l D B d mX5_begin [.ref a0] h (.ok none, h1) := by
  refine e_start [some (.ref a0)] (by decide) rfl rfl rfl (Nat.le_of_ble_eq_true rfl) (fun K hl0 hD0 hB0 hM hd0 hr => ?_)
  subst hl0 hD0 hB0 hd0
  have ho : (k_M K).1.cls = "PegBands$Reader" := by rw [hM]; rfl
  have hT : (k_M K).2.2.2.1 = none := by rw [hM]
  refine (show Sx K cX5_begin 0 [some (.ref a0)] [] h (f_X5_begin F c h a0) (fun w => w = h1) from ?_) _ e rfl
  clear e
  unfold f_X5_begin
  refine S_aload_n (dc_X5_begin 0 rfl) rfl ?_
  refine S_iconst_ 0 (dc_X5_begin 1 rfl) rfl ?_
  refine S_putI (dc_X5_begin 2 rfl) ho (fl_X5_19 hc).1 (fl_X5_19 hc).2.1 (Or.inl (fl_X5_19 hc).2.2.1) (by rcases hc with rfl | rfl | rfl <;> rfl) (by rcases hc with rfl | rfl | rfl <;> rfl) (fun h2 e2 => ?_)
  refine S_aload_n (dc_X5_begin 3 rfl) rfl ?_
  refine Sx.ask (fun _ i6 => ?_)
  obtain ⟨qq6, hq6, hs6⟩ := rs_X5_next hc
  refine S_rwV (d := k_d K - 1) (e_callV (b := a0) (As := []) (rest := []) ok_X5_next rfl (Nat.le_of_ble_eq_true rfl) (dc_X5_begin 4 rfl) ho q600 q601 hq6 hs6 (e_is_of i6) rfl (Nat.le_of_ble_eq_true rfl)) (by omega) (fun _ e => ct_X5_next hc (by omega) e) (fun h6 e6 => ?_)
  exact S_vret (dc_X5_begin 5 rfl) hT (fun q => by cases q; exact hr)
abbrev cX5_is : ByteArray := prog_15_method_8_code
def yX5_is : MethodName := ⟨"PegBands$Reader", "is", "(Ljava/lang/String;)Z"⟩
def tb_X5_is : List (Nat × Instr × Nat) := [(0, .aload_n 0, 1), (1, .getfield 43, 3), (4, .iconst 1, 1), (5, .if_icmp .ne 14, 3), (8, .aload_n 0, 1), (9, .getfield 64, 3), (12, .aload_n 1, 1), (13, .invokevirtual 67, 3), (16, .if_icmp .eq 5, 3), (19, .iconst 0, 1), (20, .ireturn, 1), (21, .iconst 0, 1), (22, .istore_n 2, 1), (23, .iload_n 2, 1), (24, .aload_n 0, 1), (25, .getfield 64, 3), (28, .if_icmp .ge 33, 3), (31, .aload_n 0, 1), (32, .getfield 3, 3), (35, .getfield 28, 3), (38, .aload_n 0, 1), (39, .getfield 40, 3), (42, .iload_n 2, 1), (43, .iadd, 1), (44, .baload, 1), (45, .aload_n 1, 1), (46, .iload_n 2, 1), (47, .invokevirtual 72, 3), (50, .if_icmp .eq 5, 3), (53, .iconst 0, 1), (54, .ireturn, 1), (55, .iinc 2 1, 3), (58, .goto (-35), 3), (61, .iconst 1, 1), (62, .ireturn, 1)]
theorem tk_X5_is : ∀ q ∈ tb_X5_is, decode cX5_is q.1 = .ok q.2 := by decide +kernel
theorem dc_X5_is (k : Nat) {pc n : Nat} {i : Instr} (h : tb_X5_is[k]? = some (pc, i, n)) : decode cX5_is pc = .ok (i, n) := tk_X5_is (pc, i, n) (List.mem_of_getElem? h)
abbrev mX5_is : e_M := (yX5_is, cX5_is, 3, some (.boolean), [])
theorem ok_X5_is : e_mok mX5_is 1 := ⟨q639, q114, by decide +kernel, fun sig h => by cases h; rfl⟩
def lp_X5_is_23 (F : Nat) (A : Nat → Nat) (c : Nat) (h : e_H) (a0 : Nat) (a1 : Nat) : Nat → Int32 → Option (Except Int32 Unit)
  | 0, _ => none
  | n + 1, x2_23 =>
    Option.bind (e_fI h a0 c 5) (fun x25 =>
    if x25 ≤ x2_23 then
      some (.ok ())
    else
      Option.bind (e_fA h a0 c 7) (fun x32 =>
      Option.bind (e_fA h x32 0 0) (fun x35 =>
      Option.bind (e_fI h a0 c 2) (fun x39 =>
      Option.bind (e_aI h x35 1 (x39 + x2_23)) (fun x44 =>
      Option.bind (e_str A a1) (fun t47 =>
      Option.bind (e_sat t47 x2_23) (fun x47 =>
      if x44 = x47 then
        Option.bind (some (x2_23 + 1)) (fun x55 =>
        lp_X5_is_23 F A c h a0 a1 n x55)
      else
        some (.error 0))))))))
def f_X5_is (F : Nat) (A : Nat → Nat) (c : Nat) (h : e_H) (a0 : Nat) (a1 : Nat) : Option Int32 :=
  Option.bind (e_fI h a0 c 3) (fun x1 =>
  if x1 = 1 then
    Option.bind (e_fI h a0 c 5) (fun x9 =>
    Option.bind (e_str A a1) (fun t13 =>
    Option.bind (e_slen t13) (fun x13 =>
    if x9 = x13 then
      e_bE (
          lp_X5_is_23 F A c h a0 a1 F 0
        : Option (Except Int32 Unit)) (fun _ =>
      some 1)
    else
      some 0)))
  else
    some 0)
set_option maxHeartbeats 4000000 in
set_option maxRecDepth 100000 in
theorem ct_X5_is {l : Launch} {D : e_D} {B : Heap} {F : Nat} {A : Nat → Nat} {c : Nat} {d : Nat} {h : e_H} {a0 : Nat} {a1 : Nat} {v : Int32} (hc : c = 4 ∨ c = 5 ∨ c = 7) (hA : D.2.2.1 = A) (hd : 6 ≤ d) (e : f_X5_is F A c h a0 a1 = some v) : e_Run l D B d mX5_is [.ref a0, .ref a1] h (.ok (some (.int v)), h) := by
  refine e_start [some (.ref a0), some (.ref a1), none] (by decide) rfl rfl rfl (Nat.le_of_ble_eq_true rfl) (fun K hl0 hD0 hB0 hM hd0 hr => ?_)
  subst hl0 hD0 hB0 hd0
  have ho : (k_M K).1.cls = "PegBands$Reader" := by rw [hM]; rfl
  have hT : (k_M K).2.2.2.1 = some (.boolean) := by rw [hM]
  refine (show Sx K cX5_is 0 [some (.ref a0), some (.ref a1), none] [] h (f_X5_is F A c h a0 a1) (fun w => w = v) from ?_) _ e rfl
  clear e
  unfold f_X5_is
  refine S_aload_n (dc_X5_is 0 rfl) rfl ?_
  refine S_getI (dc_X5_is 1 rfl) ho (fl_X5_43 hc).1 (fl_X5_43 hc).2.1 (fun x1 e1 => ?_)
  refine S_iconst_ 1 (dc_X5_is 2 rfl) rfl ?_
  refine S_icmp_ne 19 (dc_X5_is 3 rfl) rfl (fun c5 => ?_) (fun c5 => ?_)
  · refine S_iconst_ 0 (dc_X5_is 9 rfl) rfl ?_
    exact S_iret (dc_X5_is 10 rfl) hT rfl (fun q => by cases q; exact hr)
  · refine S_aload_n (dc_X5_is 4 rfl) rfl ?_
    refine S_getI (dc_X5_is 5 rfl) ho (fl_X5_64 hc).1 (fl_X5_64 hc).2.1 (fun x9 e9 => ?_)
    refine S_aload_n (dc_X5_is 6 rfl) rfl ?_
    refine Sx.ask (fun t13 i13 => ?_)
    refine S_roI (d := k_d K - 1) (e_callStr (b := a1) (As := []) (rest := [.int x9]) ok_J2_length rfl (Nat.le_of_ble_eq_true rfl) (dc_X5_is 7 rfl) ho q640 q641 (e_sel.of q642) (by rw [hA]; exact e_str_of i13) rfl (Nat.le_of_ble_eq_true rfl)) (by omega) (fun _ e => ct_J2_length (by rw [hA]; exact i13) (by omega) e) (fun x13 e13 => ?_)
    refine S_icmp_eq 21 (dc_X5_is 8 rfl) rfl (fun c16 => ?_) (fun c16 => ?_)
    · refine S_iconst_ 0 (dc_X5_is 11 rfl) rfl ?_
      refine S_istore_n (L' := [some (.ref a0), some (.ref a1), some (.int 0)]) (dc_X5_is 12 rfl) rfl ?_
      refine Sx.regKE0 (pc2 := 61) (L2 := [none, none, none]) (st2 := []) (h2 := h) ?_ (fun Q1 hK1 hE1 => ?_)
      · skip
        refine S_iconst_ 1 (dc_X5_is 33 rfl) rfl ?_
        exact S_iret (dc_X5_is 34 rfl) hT rfl (fun q => by cases q; exact hr)
      · have hK1 : Sx K cX5_is 61 [none, none, none] [] h (some (.ok ())) Q1 := hK1
        have ih1 : ∀ (n : Nat) (x2_23 : Int32), Sx K cX5_is 23 [some (.ref a0), some (.ref a1), some (.int x2_23)] [] h (lp_X5_is_23 F A c h a0 a1 n x2_23) Q1 := by
          intro n
          induction n with
          | zero => intro x2_23; exact Sx.none
          | succ n ih1 =>
            intro x2_23
            rw [lp_X5_is_23.eq_2]
            refine S_iload_n (dc_X5_is 13 rfl) rfl ?_
            refine S_aload_n (dc_X5_is 14 rfl) rfl ?_
            refine S_getI (dc_X5_is 15 rfl) ho (fl_X5_64 hc).1 (fl_X5_64 hc).2.1 (fun x25 e25 => ?_)
            refine S_icmp_ge 61 (dc_X5_is 16 rfl) rfl (fun c28 => ?_) (fun c28 => ?_)
            · refine Sx.cut [false, false, false] ?_
              exact hK1
            · refine S_aload_n (dc_X5_is 17 rfl) rfl ?_
              refine S_getA (dc_X5_is 18 rfl) ho (fl_X5_3 hc).1 (fl_X5_3 hc).2.1 (fun x32 e32 => ?_)
              refine S_getA (dc_X5_is 19 rfl) ho fl_X5_28_0_0 (fun _ _ => rfl) (fun x35 e35 => ?_)
              refine S_aload_n (dc_X5_is 20 rfl) rfl ?_
              refine S_getI (dc_X5_is 21 rfl) ho (fl_X5_40 hc).1 (fl_X5_40 hc).2.1 (fun x39 e39 => ?_)
              refine S_iload_n (dc_X5_is 22 rfl) rfl ?_
              refine S_iadd (dc_X5_is 23 rfl) ?_
              refine S_bald (dc_X5_is 24 rfl) (fun x44 e44 => ?_)
              refine S_aload_n (dc_X5_is 25 rfl) rfl ?_
              refine S_iload_n (dc_X5_is 26 rfl) rfl ?_
              refine Sx.ask (fun t47 i47 => ?_)
              refine S_roI (d := k_d K - 1) (e_callStr (b := a1) (As := [.int x2_23]) (rest := [.int x44]) ok_J2_charAt rfl (Nat.le_of_ble_eq_true rfl) (dc_X5_is 27 rfl) ho q650 q651 (e_sel.of q652) (by rw [hA]; exact e_str_of i47) rfl (Nat.le_of_ble_eq_true rfl)) (by omega) (fun _ e => ct_J2_charAt (by rw [hA]; exact i47) (by omega) e) (fun x47 e47 => ?_)
              refine S_icmp_eq 55 (dc_X5_is 28 rfl) rfl (fun c50 => ?_) (fun c50 => ?_)
              · refine S_iincN 1 (L' := fun x55 => [some (.ref a0), some (.ref a1), some (.int x55)]) (dc_X5_is 31 rfl) rfl rfl (fun _ => rfl) (fun x55 n55 => ?_)
                refine S_goto 23 (dc_X5_is 32 rfl) rfl ?_
                exact ih1 x55
              · refine S_iconst_ 0 (dc_X5_is 29 rfl) rfl ?_
                refine Sx.err hE1 ?_
                exact S_iret (dc_X5_is 30 rfl) hT rfl (fun q => by cases q; exact hr)
        exact ih1 F 0
    · refine S_iconst_ 0 (dc_X5_is 9 rfl) rfl ?_
      exact S_iret (dc_X5_is 10 rfl) hT rfl (fun q => by cases q; exact hr)
abbrev cX5_wrong : ByteArray := prog_15_method_12_code
def yX5_wrong : MethodName := ⟨"PegBands$Reader", "wrong", "(I)LPegBands$Fault;"⟩
def tb_X5_wrong : List (Nat × Instr × Nat) := [(0, .aload_n 0, 1), (1, .getfield 3, 3), (4, .getfield 88, 3), (7, .iload_n 1, 1), (8, .putfield 92, 3), (11, .aload_n 0, 1), (12, .getfield 3, 3), (15, .getfield 88, 3), (18, .aload_n 0, 1), (19, .getfield 40, 3), (22, .putfield 97, 3), (25, .aload_n 0, 1), (26, .getfield 3, 3), (29, .getfield 88, 3), (32, .areturn, 1)]
theorem tk_X5_wrong : ∀ q ∈ tb_X5_wrong, decode cX5_wrong q.1 = .ok q.2 := by decide +kernel
theorem dc_X5_wrong (k : Nat) {pc n : Nat} {i : Instr} (h : tb_X5_wrong[k]? = some (pc, i, n)) : decode cX5_wrong pc = .ok (i, n) := tk_X5_wrong (pc, i, n) (List.mem_of_getElem? h)
abbrev mX5_wrong : e_M := (yX5_wrong, cX5_wrong, 2, some (.object "PegBands$Fault"), [])
theorem ok_X5_wrong : e_mok mX5_wrong 1 := ⟨q701, q114, by decide +kernel, fun sig h => by cases h; rfl⟩
theorem fl_X5_88_0_4 : e_FL "PegBands$Reader" 88 0 4 := ⟨_, rfl, by decide, Or.inr (Or.inr (Or.inl ⟨_, q456⟩))⟩
theorem fl_X5_92_1_6 : e_FL "PegBands$Reader" 92 1 6 := ⟨_, rfl, by decide, Or.inl q190⟩
theorem fl_X5_97_1_7 : e_FL "PegBands$Reader" 97 1 7 := ⟨_, rfl, by decide, Or.inl q192⟩
def f_X5_wrong (c : Nat) (h : e_H) (a0 : Nat) (a1 : Int32) : Option (Nat × e_H) :=
  Option.bind (e_fA h a0 c 7) (fun x1 =>
  Option.bind (e_fA h x1 0 4) (fun x4 =>
  Option.bind (e_gI h x4 1 6 a1) (fun h8 =>
  Option.bind (e_fA h8 a0 c 7) (fun x12 =>
  Option.bind (e_fA h8 x12 0 4) (fun x15 =>
  Option.bind (e_fI h8 a0 c 2) (fun x19 =>
  Option.bind (e_gI h8 x15 1 7 x19) (fun h22 =>
  Option.bind (e_fA h22 a0 c 7) (fun x26 =>
  Option.bind (e_fA h22 x26 0 4) (fun x29 =>
  some (x29, h22))))))))))
set_option maxHeartbeats 4000000 in
set_option maxRecDepth 100000 in
theorem ct_X5_wrong {l : Launch} {D : e_D} {B : Heap} {c : Nat} {d : Nat} {h : e_H} {a0 : Nat} {a1 : Int32} {v : Nat} {h1 : e_H} (hc : c = 4 ∨ c = 5 ∨ c = 7) (hd : 1 ≤ d) (e : f_X5_wrong c h a0 a1 = some (v, h1)) : e_Run l D B d mX5_wrong [.ref a0, .int a1] h (.ok (some (.ref v)), h1) := by
  refine e_start [some (.ref a0), some (.int a1)] (by decide) rfl rfl rfl (Nat.le_of_ble_eq_true rfl) (fun K hl0 hD0 hB0 hM hd0 hr => ?_)
  subst hl0 hD0 hB0 hd0
  have ho : (k_M K).1.cls = "PegBands$Reader" := by rw [hM]; rfl
  have hT : (k_M K).2.2.2.1 = some (.object "PegBands$Fault") := by rw [hM]
  refine (show Sx K cX5_wrong 0 [some (.ref a0), some (.int a1)] [] h (f_X5_wrong c h a0 a1) (fun w => w = (v, h1)) from ?_) _ e rfl
  clear e
  unfold f_X5_wrong
  refine S_aload_n (dc_X5_wrong 0 rfl) rfl ?_
  refine S_getA (dc_X5_wrong 1 rfl) ho (fl_X5_3 hc).1 (fl_X5_3 hc).2.1 (fun x1 e1 => ?_)
  refine S_getA (dc_X5_wrong 2 rfl) ho fl_X5_88_0_4 (fun _ _ => rfl) (fun x4 e4 => ?_)
  refine S_iload_n (dc_X5_wrong 3 rfl) rfl ?_
  refine S_putI (dc_X5_wrong 4 rfl) ho fl_X5_92_1_6 (fun _ _ => rfl) (Or.inl rfl) rfl rfl (fun h8 e8 => ?_)
  refine S_aload_n (dc_X5_wrong 5 rfl) rfl ?_
  refine S_getA (dc_X5_wrong 6 rfl) ho (fl_X5_3 hc).1 (fl_X5_3 hc).2.1 (fun x12 e12 => ?_)
  refine S_getA (dc_X5_wrong 7 rfl) ho fl_X5_88_0_4 (fun _ _ => rfl) (fun x15 e15 => ?_)
  refine S_aload_n (dc_X5_wrong 8 rfl) rfl ?_
  refine S_getI (dc_X5_wrong 9 rfl) ho (fl_X5_40 hc).1 (fl_X5_40 hc).2.1 (fun x19 e19 => ?_)
  refine S_putI (dc_X5_wrong 10 rfl) ho fl_X5_97_1_7 (fun _ _ => rfl) (Or.inl rfl) rfl rfl (fun h22 e22 => ?_)
  refine S_aload_n (dc_X5_wrong 11 rfl) rfl ?_
  refine S_getA (dc_X5_wrong 12 rfl) ho (fl_X5_3 hc).1 (fl_X5_3 hc).2.1 (fun x26 e26 => ?_)
  refine S_getA (dc_X5_wrong 13 rfl) ho fl_X5_88_0_4 (fun _ _ => rfl) (fun x29 e29 => ?_)
  exact S_aret (dc_X5_wrong 14 rfl) hT (Or.inl ⟨_, rfl⟩) (fun q => by cases q; exact hr)
abbrev cX5_must : ByteArray := prog_15_method_13_code
def yX5_must : MethodName := ⟨"PegBands$Reader", "must", "(ZI)V"⟩
def tb_X5_must : List (Nat × Instr × Nat) := [(0, .iload_n 1, 1), (1, .ifCond .ne 9, 3), (4, .aload_n 0, 1), (5, .iload_n 2, 1), (6, .invokevirtual 100, 3), (9, .athrow, 1), (10, .return_, 1)]
theorem tk_X5_must : ∀ q ∈ tb_X5_must, decode cX5_must q.1 = .ok q.2 := by decide +kernel
theorem dc_X5_must (k : Nat) {pc n : Nat} {i : Instr} (h : tb_X5_must[k]? = some (pc, i, n)) : decode cX5_must pc = .ok (i, n) := tk_X5_must (pc, i, n) (List.mem_of_getElem? h)
abbrev mX5_must : e_M := (yX5_must, cX5_must, 3, none, [])
theorem ok_X5_must : e_mok mX5_must 2 := ⟨q694, q114, by decide +kernel, fun sig h => by cases h; rfl⟩
theorem rs_X5_wrong {c : Nat} (hc : c = 4 ∨ c = 5 ∨ c = 7) : ∃ q : vw_C, e_cl[c]? = some q ∧ e_sel q.1 yX5_wrong yX5_wrong := by
  rcases hc with rfl | rfl | rfl
  · exact ⟨_, rfl, e_sel.of q698⟩
  · exact ⟨_, rfl, e_sel.of q699⟩
  · exact ⟨_, rfl, e_sel.of q700⟩
def f_X5_must (c : Nat) (h : e_H) (a0 : Nat) (a1 : Int32) (a2 : Int32) : Option (Except (Nat × Nat) Unit × e_H) :=
  if a1 = 0 then
    Option.bind (e_is h a0 c) (fun _ =>
    e_b2 (f_X5_wrong c h a0 a2) (fun x6 h6 =>
    Option.bind (e_is h6 x6 1) (fun _ =>
    some (.error (0, x6), h6))))
  else
    some (.ok (), h)
set_option maxHeartbeats 4000000 in
set_option maxRecDepth 100000 in
theorem ct_X5_must {l : Launch} {D : e_D} {B : Heap} {c : Nat} {d : Nat} {h : e_H} {a0 : Nat} {a1 : Int32} {a2 : Int32} {o : Except (Nat × Nat) Unit} {h1 : e_H} (hc : c = 4 ∨ c = 5 ∨ c = 7) (hd : 2 ≤ d) (e : f_X5_must c h a0 a1 a2 = some (o, h1)) : e_Run l D B d mX5_must [.ref a0, .int a1, .int a2] h (o.map (fun _ => none), h1) := by
  refine e_start [some (.ref a0), some (.int a1), some (.int a2)] (by decide) rfl rfl rfl (Nat.le_of_ble_eq_true rfl) (fun K hl0 hD0 hB0 hM hd0 hr => ?_)
  subst hl0 hD0 hB0 hd0
  have ho : (k_M K).1.cls = "PegBands$Reader" := by rw [hM]; rfl
  have hT : (k_M K).2.2.2.1 = none := by rw [hM]
  have hX : ∀ pc, ∀ z ∈ tableOf (k_M K).2.2.2.2, covers z pc = false := by rw [hM]; intro pc z hz; cases hz
  refine (show Sx K cX5_must 0 [some (.ref a0), some (.int a1), some (.int a2)] [] h (f_X5_must c h a0 a1 a2) (fun w => w = (o, h1)) from ?_) _ e rfl
  clear e
  unfold f_X5_must
  refine S_iload_n (dc_X5_must 0 rfl) rfl ?_
  refine S_if_ne 10 (dc_X5_must 1 rfl) rfl (fun c1 => ?_) (fun c1 => ?_)
  · exact S_vret (dc_X5_must 6 rfl) hT (fun q => by cases q; exact hr)
  · refine S_aload_n (dc_X5_must 2 rfl) rfl ?_
    refine S_iload_n (dc_X5_must 3 rfl) rfl ?_
    refine Sx.ask (fun _ i6 => ?_)
    obtain ⟨qq6, hq6, hs6⟩ := rs_X5_wrong hc
    refine S_rwA (d := k_d K - 1) (e_callV (b := a0) (As := [.int a2]) (rest := []) ok_X5_wrong rfl (Nat.le_of_ble_eq_true rfl) (dc_X5_must 4 rfl) ho q695 q696 hq6 hs6 (e_is_of i6) rfl (Nat.le_of_ble_eq_true rfl)) (by omega) (fun _ _ e => ct_X5_wrong hc (by omega) e) (fun x6 h6 e6 => ?_)
    refine Sx.ask (fun _ i9 => ?_)
    refine S_athrow (dc_X5_must 5 rfl) (e_is_of i9) ?_
    exact SxX.out (hX _) (fun q => by cases q; exact hr)
abbrev cX5_word : ByteArray := prog_15_method_16_code
def yX5_word : MethodName := ⟨"PegBands$Reader", "word", "(Ljava/lang/String;)V"⟩
def tb_X5_word : List (Nat × Instr × Nat) := [(0, .aload_n 0, 1), (1, .aload_n 0, 1), (2, .aload_n 1, 1), (3, .invokevirtual 76, 3), (6, .iconst 1, 1), (7, .invokevirtual 106, 3), (10, .aload_n 0, 1), (11, .invokevirtual 22, 3), (14, .return_, 1)]
theorem tk_X5_word : ∀ q ∈ tb_X5_word, decode cX5_word q.1 = .ok q.2 := by decide +kernel
theorem dc_X5_word (k : Nat) {pc n : Nat} {i : Instr} (h : tb_X5_word[k]? = some (pc, i, n)) : decode cX5_word pc = .ok (i, n) := tk_X5_word (pc, i, n) (List.mem_of_getElem? h)
abbrev mX5_word : e_M := (yX5_word, cX5_word, 2, none, [])
theorem ok_X5_word : e_mok mX5_word 1 := ⟨q632, q114, by decide +kernel, fun sig h => by cases h; rfl⟩
theorem rs_X5_is {c : Nat} (hc : c = 4 ∨ c = 5 ∨ c = 7) : ∃ q : vw_C, e_cl[c]? = some q ∧ e_sel q.1 yX5_is yX5_is := by
  rcases hc with rfl | rfl | rfl
  · exact ⟨_, rfl, e_sel.of q636⟩
  · exact ⟨_, rfl, e_sel.of q637⟩
  · exact ⟨_, rfl, e_sel.of q638⟩
theorem rs_X5_must {c : Nat} (hc : c = 4 ∨ c = 5 ∨ c = 7) : ∃ q : vw_C, e_cl[c]? = some q ∧ e_sel q.1 yX5_must yX5_must := by
  rcases hc with rfl | rfl | rfl
  · exact ⟨_, rfl, e_sel.of q691⟩
  · exact ⟨_, rfl, e_sel.of q692⟩
  · exact ⟨_, rfl, e_sel.of q693⟩
def f_X5_word (F : Nat) (A : Nat → Nat) (c : Nat) (h : e_H) (a0 : Nat) (a1 : Nat) : Option (Except (Nat × Nat) Unit × e_H) :=
  Option.bind (e_is h a0 c) (fun _ =>
  Option.bind (f_X5_is F A c h a0 a1) (fun x3 =>
  e_b3 (f_X5_must c h a0 x3 1) (fun z7 h7 =>
      some (.error z7, h7)) (fun _ h7 =>
  Option.bind (e_is h7 a0 c) (fun _ =>
  Option.bind (f_X5_next F c h7 a0) (fun h11 =>
  some (.ok (), h11))))))
set_option maxHeartbeats 4000000 in
set_option maxRecDepth 100000 in
theorem ct_X5_word {l : Launch} {D : e_D} {B : Heap} {F : Nat} {A : Nat → Nat} {c : Nat} {d : Nat} {h : e_H} {a0 : Nat} {a1 : Nat} {o : Except (Nat × Nat) Unit} {h1 : e_H} (hc : c = 4 ∨ c = 5 ∨ c = 7) (hA : D.2.2.1 = A) (hd : 7 ≤ d) (e : f_X5_word F A c h a0 a1 = some (o, h1)) : e_Run l D B d mX5_word [.ref a0, .ref a1] h (o.map (fun _ => none), h1) := by
  refine e_start [some (.ref a0), some (.ref a1)] (by decide) rfl rfl rfl (Nat.le_of_ble_eq_true rfl) (fun K hl0 hD0 hB0 hM hd0 hr => ?_)
  subst hl0 hD0 hB0 hd0
  have ho : (k_M K).1.cls = "PegBands$Reader" := by rw [hM]; rfl
  have hT : (k_M K).2.2.2.1 = none := by rw [hM]
  have hX : ∀ pc, ∀ z ∈ tableOf (k_M K).2.2.2.2, covers z pc = false := by rw [hM]; intro pc z hz; cases hz
  refine (show Sx K cX5_word 0 [some (.ref a0), some (.ref a1)] [] h (f_X5_word F A c h a0 a1) (fun w => w = (o, h1)) from ?_) _ e rfl
  clear e
  unfold f_X5_word
  refine S_aload_n (dc_X5_word 0 rfl) rfl ?_
  refine S_aload_n (dc_X5_word 1 rfl) rfl ?_
  refine S_aload_n (dc_X5_word 2 rfl) rfl ?_
  refine Sx.ask (fun _ i3 => ?_)
  obtain ⟨qq3, hq3, hs3⟩ := rs_X5_is hc
  refine S_roI (d := k_d K - 1) (e_callV (b := a0) (As := [.ref a1]) (rest := [.ref a0]) ok_X5_is rfl (Nat.le_of_ble_eq_true rfl) (dc_X5_word 3 rfl) ho q633 q634 hq3 hs3 (e_is_of i3) rfl (Nat.le_of_ble_eq_true rfl)) (by omega) (fun _ e => ct_X5_is hc hA (by omega) e) (fun x3 e3 => ?_)
  refine S_iconst_ 1 (dc_X5_word 4 rfl) rfl ?_
  obtain ⟨qq7, hq7, hs7⟩ := rs_X5_must hc
  refine S_exV (d := k_d K - 1) (e_callV (b := a0) (As := [.int x3, .int 1]) (rest := []) ok_X5_must rfl (Nat.le_of_ble_eq_true rfl) (dc_X5_word 5 rfl) ho q688 q689 hq7 hs7 (e_is_of i3) rfl (Nat.le_of_ble_eq_true rfl)) (by omega) (fun _ _ e => ct_X5_must hc (by omega) e) (fun z7 h7 e7 => ?_) (fun _ h7 e7 => ?_)
  · exact SxX.out (hX _) (fun q => by cases q; exact hr)
  refine S_aload_n (dc_X5_word 6 rfl) rfl ?_
  refine Sx.ask (fun _ i11 => ?_)
  obtain ⟨qq11, hq11, hs11⟩ := rs_X5_next hc
  refine S_rwV (d := k_d K - 1) (e_callV (b := a0) (As := []) (rest := []) ok_X5_next rfl (Nat.le_of_ble_eq_true rfl) (dc_X5_word 7 rfl) ho q600 q601 hq11 hs11 (e_is_of i11) rfl (Nat.le_of_ble_eq_true rfl)) (by omega) (fun _ e => ct_X5_next hc (by omega) e) (fun h11 e11 => ?_)
  exact S_vret (dc_X5_word 8 rfl) hT (fun q => by cases q; exact hr)
abbrev cX5_number : ByteArray := prog_15_method_15_code
def yX5_number : MethodName := ⟨"PegBands$Reader", "number", "(II)I"⟩
def tb_X5_number : List (Nat × Instr × Nat) := [(0, .aload_n 0, 1), (1, .aload_n 0, 1), (2, .getfield 43, 3), (5, .iconst 2, 1), (6, .if_icmp .ne 7, 3), (9, .iconst 1, 1), (10, .goto 4, 3), (13, .iconst 0, 1), (14, .iconst 1, 1), (15, .invokevirtual 106, 3), (18, .aload_n 0, 1), (19, .aload_n 0, 1), (20, .getfield 57, 3), (23, .iload_n 1, 1), (24, .iload_n 2, 1), (25, .invokestatic 32, 3), (28, .iconst 2, 1), (29, .invokevirtual 106, 3), (32, .aload_n 0, 1), (33, .getfield 57, 3), (36, .istore_n 3, 1), (37, .aload_n 0, 1), (38, .invokevirtual 22, 3), (41, .iload_n 3, 1), (42, .ireturn, 1)]
theorem tk_X5_number : ∀ q ∈ tb_X5_number, decode cX5_number q.1 = .ok q.2 := by decide +kernel
theorem dc_X5_number (k : Nat) {pc n : Nat} {i : Instr} (h : tb_X5_number[k]? = some (pc, i, n)) : decode cX5_number pc = .ok (i, n) := tk_X5_number (pc, i, n) (List.mem_of_getElem? h)
abbrev mX5_number : e_M := (yX5_number, cX5_number, 4, some (.int), [])
theorem ok_X5_number : e_mok mX5_number 2 := ⟨q707, q114, by decide +kernel, fun sig h => by cases h; rfl⟩
def f_X5_number (F : Nat) (c : Nat) (h : e_H) (a0 : Nat) (a1 : Int32) (a2 : Int32) : Option (Except (Nat × Nat) Int32 × e_H) :=
  Option.bind (e_fI h a0 c 3) (fun x2 =>
  Option.bind (
      if x2 = 2 then
        some 1
      else
        some 0
    : Option (Int32)) (fun s14_1 =>
  e_b3 (f_X5_must c h a0 s14_1 1) (fun z15 h15 =>
      some (.error z15, h15)) (fun _ h15 =>
  Option.bind (e_fI h15 a0 c 4) (fun x20 =>
  Option.bind (f_X1_isIn x20 a1 a2) (fun x25 =>
  e_b3 (f_X5_must c h15 a0 x25 2) (fun z29 h29 =>
      some (.error z29, h29)) (fun _ h29 =>
  Option.bind (e_fI h29 a0 c 4) (fun x33 =>
  Option.bind (f_X5_next F c h29 a0) (fun h38 =>
  some (.ok x33, h38)))))))))
set_option maxHeartbeats 4000000 in
set_option maxRecDepth 100000 in
theorem ct_X5_number {l : Launch} {D : e_D} {B : Heap} {F : Nat} {c : Nat} {d : Nat} {h : e_H} {a0 : Nat} {a1 : Int32} {a2 : Int32} {o : Except (Nat × Nat) Int32} {h1 : e_H} (hc : c = 4 ∨ c = 5 ∨ c = 7) (hd : 5 ≤ d) (e : f_X5_number F c h a0 a1 a2 = some (o, h1)) : e_Run l D B d mX5_number [.ref a0, .int a1, .int a2] h (o.map (fun v => some (.int v)), h1) := by
  refine e_start [some (.ref a0), some (.int a1), some (.int a2), none] (by decide) rfl rfl rfl (Nat.le_of_ble_eq_true rfl) (fun K hl0 hD0 hB0 hM hd0 hr => ?_)
  subst hl0 hD0 hB0 hd0
  have ho : (k_M K).1.cls = "PegBands$Reader" := by rw [hM]; rfl
  have hT : (k_M K).2.2.2.1 = some (.int) := by rw [hM]
  have hX : ∀ pc, ∀ z ∈ tableOf (k_M K).2.2.2.2, covers z pc = false := by rw [hM]; intro pc z hz; cases hz
  refine (show Sx K cX5_number 0 [some (.ref a0), some (.int a1), some (.int a2), none] [] h (f_X5_number F c h a0 a1 a2) (fun w => w = (o, h1)) from ?_) _ e rfl
  clear e
  unfold f_X5_number
  refine S_aload_n (dc_X5_number 0 rfl) rfl ?_
  refine S_aload_n (dc_X5_number 1 rfl) rfl ?_
  refine S_getI (dc_X5_number 2 rfl) ho (fl_X5_43 hc).1 (fl_X5_43 hc).2.1 (fun x2 e2 => ?_)
  refine S_iconst_ 2 (dc_X5_number 3 rfl) rfl ?_
  refine Sx.regK1 (pc2 := 14) (L2 := fun (s14_1 : Int32) => [some (.ref a0), some (.int a1), some (.int a2), none]) (st2 := fun (s14_1 : Int32) => [.int s14_1, .ref a0]) (h2 := fun (s14_1 : Int32) => h) ?_ (fun Q1 hK1 => ?_)
  · intro s14_1
    show Sx K cX5_number 14 [some (.ref a0), some (.int a1), some (.int a2), none] [.int s14_1, .ref a0] h _ _
    refine S_iconst_ 1 (dc_X5_number 8 rfl) rfl ?_
    obtain ⟨qq15, hq15, hs15⟩ := rs_X5_must hc
    refine S_exV (d := k_d K - 1) (e_callV (b := a0) (As := [.int s14_1, .int 1]) (rest := []) ok_X5_must rfl (Nat.le_of_ble_eq_true rfl) (dc_X5_number 9 rfl) ho q688 q689 hq15 hs15 (e_fI_of e2).1 rfl (Nat.le_of_ble_eq_true rfl)) (by omega) (fun _ _ e => ct_X5_must hc (by omega) e) (fun z15 h15 e15 => ?_) (fun _ h15 e15 => ?_)
    · exact SxX.out (hX _) (fun q => by cases q; exact hr)
    refine S_aload_n (dc_X5_number 10 rfl) rfl ?_
    refine S_aload_n (dc_X5_number 11 rfl) rfl ?_
    refine S_getI (dc_X5_number 12 rfl) ho (fl_X5_57 hc).1 (fl_X5_57 hc).2.1 (fun x20 e20 => ?_)
    refine S_iload_n (dc_X5_number 13 rfl) rfl ?_
    refine S_iload_n (dc_X5_number 14 rfl) rfl ?_
    refine S_roI (d := k_d K - 1) (e_callSN (As := [.int x20, .int a1, .int a2]) (rest := [.ref a0]) ok_X1_isIn rfl (Nat.le_of_ble_eq_true rfl) (dc_X5_number 15 rfl) ho q615 q616 rfl (Nat.le_of_ble_eq_true rfl)) (by omega) (fun _ e => ct_X1_isIn (by omega) e) (fun x25 e25 => ?_)
    refine S_iconst_ 2 (dc_X5_number 16 rfl) rfl ?_
    obtain ⟨qq29, hq29, hs29⟩ := rs_X5_must hc
    refine S_exV (d := k_d K - 1) (e_callV (b := a0) (As := [.int x25, .int 2]) (rest := []) ok_X5_must rfl (Nat.le_of_ble_eq_true rfl) (dc_X5_number 17 rfl) ho q688 q689 hq29 hs29 (e_fI_of e20).1 rfl (Nat.le_of_ble_eq_true rfl)) (by omega) (fun _ _ e => ct_X5_must hc (by omega) e) (fun z29 h29 e29 => ?_) (fun _ h29 e29 => ?_)
    · exact SxX.out (hX _) (fun q => by cases q; exact hr)
    refine S_aload_n (dc_X5_number 18 rfl) rfl ?_
    refine S_getI (dc_X5_number 19 rfl) ho (fl_X5_57 hc).1 (fl_X5_57 hc).2.1 (fun x33 e33 => ?_)
    refine S_istore_n (L' := [some (.ref a0), some (.int a1), some (.int a2), some (.int x33)]) (dc_X5_number 20 rfl) rfl ?_
    refine S_aload_n (dc_X5_number 21 rfl) rfl ?_
    obtain ⟨qq38, hq38, hs38⟩ := rs_X5_next hc
    refine S_rwV (d := k_d K - 1) (e_callV (b := a0) (As := []) (rest := []) ok_X5_next rfl (Nat.le_of_ble_eq_true rfl) (dc_X5_number 22 rfl) ho q600 q601 hq38 hs38 (e_fI_of e33).1 rfl (Nat.le_of_ble_eq_true rfl)) (by omega) (fun _ e => ct_X5_next hc (by omega) e) (fun h38 e38 => ?_)
    refine S_iload_n (dc_X5_number 23 rfl) rfl ?_
    exact S_iret (dc_X5_number 24 rfl) hT rfl (fun q => by cases q; exact hr)
  · have hK1 : ∀ (s14_1 : Int32), Sx K cX5_number 14 [some (.ref a0), some (.int a1), some (.int a2), none] [.int s14_1, .ref a0] h (some s14_1) Q1 := hK1
    refine S_icmp_ne 13 (dc_X5_number 4 rfl) rfl (fun c6 => ?_) (fun c6 => ?_)
    · refine S_iconst_ 0 (dc_X5_number 7 rfl) rfl ?_
      exact hK1 0
    · refine S_iconst_ 1 (dc_X5_number 5 rfl) rfl ?_
      refine S_goto 14 (dc_X5_number 6 rfl) rfl ?_
      exact hK1 1
abbrev cX5_is_2 : ByteArray := prog_15_method_9_code
def yX5_is_2 : MethodName := ⟨"PegBands$Reader", "is", "(I)Z"⟩
def tb_X5_is_2 : List (Nat × Instr × Nat) := [(0, .aload_n 0, 1), (1, .getfield 43, 3), (4, .iconst 3, 1), (5, .if_icmp .ne 15, 3), (8, .aload_n 0, 1), (9, .getfield 57, 3), (12, .iload_n 1, 1), (13, .if_icmp .ne 7, 3), (16, .iconst 1, 1), (17, .goto 4, 3), (20, .iconst 0, 1), (21, .ireturn, 1)]
theorem tk_X5_is_2 : ∀ q ∈ tb_X5_is_2, decode cX5_is_2 q.1 = .ok q.2 := by decide +kernel
theorem dc_X5_is_2 (k : Nat) {pc n : Nat} {i : Instr} (h : tb_X5_is_2[k]? = some (pc, i, n)) : decode cX5_is_2 pc = .ok (i, n) := tk_X5_is_2 (pc, i, n) (List.mem_of_getElem? h)
abbrev mX5_is_2 : e_M := (yX5_is_2, cX5_is_2, 2, some (.boolean), [])
theorem ok_X5_is_2 : e_mok mX5_is_2 1 := ⟨q720, q114, by decide +kernel, fun sig h => by cases h; rfl⟩
def f_X5_is_2 (c : Nat) (h : e_H) (a0 : Nat) (a1 : Int32) : Option Int32 :=
  Option.bind (e_fI h a0 c 3) (fun x1 =>
  if x1 = 3 then
    Option.bind (e_fI h a0 c 4) (fun x9 =>
    if x9 = a1 then
      some 1
    else
      some 0)
  else
    some 0)
set_option maxHeartbeats 4000000 in
set_option maxRecDepth 100000 in
theorem ct_X5_is_2 {l : Launch} {D : e_D} {B : Heap} {c : Nat} {d : Nat} {h : e_H} {a0 : Nat} {a1 : Int32} {v : Int32} (hc : c = 4 ∨ c = 5 ∨ c = 7) (hd : 1 ≤ d) (e : f_X5_is_2 c h a0 a1 = some v) : e_Run l D B d mX5_is_2 [.ref a0, .int a1] h (.ok (some (.int v)), h) := by
  refine e_start [some (.ref a0), some (.int a1)] (by decide) rfl rfl rfl (Nat.le_of_ble_eq_true rfl) (fun K hl0 hD0 hB0 hM hd0 hr => ?_)
  subst hl0 hD0 hB0 hd0
  have ho : (k_M K).1.cls = "PegBands$Reader" := by rw [hM]; rfl
  have hT : (k_M K).2.2.2.1 = some (.boolean) := by rw [hM]
  refine (show Sx K cX5_is_2 0 [some (.ref a0), some (.int a1)] [] h (f_X5_is_2 c h a0 a1) (fun w => w = v) from ?_) _ e rfl
  clear e
  unfold f_X5_is_2
  refine S_aload_n (dc_X5_is_2 0 rfl) rfl ?_
  refine S_getI (dc_X5_is_2 1 rfl) ho (fl_X5_43 hc).1 (fl_X5_43 hc).2.1 (fun x1 e1 => ?_)
  refine S_iconst_ 3 (dc_X5_is_2 2 rfl) rfl ?_
  refine S_icmp_ne 20 (dc_X5_is_2 3 rfl) rfl (fun c5 => ?_) (fun c5 => ?_)
  · refine S_iconst_ 0 (dc_X5_is_2 10 rfl) rfl ?_
    exact S_iret (dc_X5_is_2 11 rfl) hT rfl (fun q => by cases q; exact hr)
  · refine S_aload_n (dc_X5_is_2 4 rfl) rfl ?_
    refine S_getI (dc_X5_is_2 5 rfl) ho (fl_X5_57 hc).1 (fl_X5_57 hc).2.1 (fun x9 e9 => ?_)
    refine S_iload_n (dc_X5_is_2 6 rfl) rfl ?_
    refine S_icmp_ne 20 (dc_X5_is_2 7 rfl) rfl (fun c13 => ?_) (fun c13 => ?_)
    · refine S_iconst_ 0 (dc_X5_is_2 10 rfl) rfl ?_
      exact S_iret (dc_X5_is_2 11 rfl) hT rfl (fun q => by cases q; exact hr)
    · refine S_iconst_ 1 (dc_X5_is_2 8 rfl) rfl ?_
      refine S_goto 21 (dc_X5_is_2 9 rfl) rfl ?_
      exact S_iret (dc_X5_is_2 11 rfl) hT rfl (fun q => by cases q; exact hr)
abbrev cX5_sign : ByteArray := prog_15_method_14_code
def yX5_sign : MethodName := ⟨"PegBands$Reader", "sign", "(I)V"⟩
def tb_X5_sign : List (Nat × Instr × Nat) := [(0, .aload_n 0, 1), (1, .aload_n 0, 1), (2, .iload_n 1, 1), (3, .invokevirtual 104, 3), (6, .iconst 1, 1), (7, .invokevirtual 106, 3), (10, .aload_n 0, 1), (11, .invokevirtual 22, 3), (14, .return_, 1)]
theorem tk_X5_sign : ∀ q ∈ tb_X5_sign, decode cX5_sign q.1 = .ok q.2 := by decide +kernel
theorem dc_X5_sign (k : Nat) {pc n : Nat} {i : Instr} (h : tb_X5_sign[k]? = some (pc, i, n)) : decode cX5_sign pc = .ok (i, n) := tk_X5_sign (pc, i, n) (List.mem_of_getElem? h)
abbrev mX5_sign : e_M := (yX5_sign, cX5_sign, 2, none, [])
theorem ok_X5_sign : e_mok mX5_sign 1 := ⟨q713, q114, by decide +kernel, fun sig h => by cases h; rfl⟩
theorem rs_X5_is_2 {c : Nat} (hc : c = 4 ∨ c = 5 ∨ c = 7) : ∃ q : vw_C, e_cl[c]? = some q ∧ e_sel q.1 yX5_is_2 yX5_is_2 := by
  rcases hc with rfl | rfl | rfl
  · exact ⟨_, rfl, e_sel.of q717⟩
  · exact ⟨_, rfl, e_sel.of q718⟩
  · exact ⟨_, rfl, e_sel.of q719⟩
def f_X5_sign (F : Nat) (c : Nat) (h : e_H) (a0 : Nat) (a1 : Int32) : Option (Except (Nat × Nat) Unit × e_H) :=
  Option.bind (e_is h a0 c) (fun _ =>
  Option.bind (f_X5_is_2 c h a0 a1) (fun x3 =>
  e_b3 (f_X5_must c h a0 x3 1) (fun z7 h7 =>
      some (.error z7, h7)) (fun _ h7 =>
  Option.bind (e_is h7 a0 c) (fun _ =>
  Option.bind (f_X5_next F c h7 a0) (fun h11 =>
  some (.ok (), h11))))))
set_option maxHeartbeats 4000000 in
set_option maxRecDepth 100000 in
theorem ct_X5_sign {l : Launch} {D : e_D} {B : Heap} {F : Nat} {c : Nat} {d : Nat} {h : e_H} {a0 : Nat} {a1 : Int32} {o : Except (Nat × Nat) Unit} {h1 : e_H} (hc : c = 4 ∨ c = 5 ∨ c = 7) (hd : 5 ≤ d) (e : f_X5_sign F c h a0 a1 = some (o, h1)) : e_Run l D B d mX5_sign [.ref a0, .int a1] h (o.map (fun _ => none), h1) := by
  refine e_start [some (.ref a0), some (.int a1)] (by decide) rfl rfl rfl (Nat.le_of_ble_eq_true rfl) (fun K hl0 hD0 hB0 hM hd0 hr => ?_)
  subst hl0 hD0 hB0 hd0
  have ho : (k_M K).1.cls = "PegBands$Reader" := by rw [hM]; rfl
  have hT : (k_M K).2.2.2.1 = none := by rw [hM]
  have hX : ∀ pc, ∀ z ∈ tableOf (k_M K).2.2.2.2, covers z pc = false := by rw [hM]; intro pc z hz; cases hz
  refine (show Sx K cX5_sign 0 [some (.ref a0), some (.int a1)] [] h (f_X5_sign F c h a0 a1) (fun w => w = (o, h1)) from ?_) _ e rfl
  clear e
  unfold f_X5_sign
  refine S_aload_n (dc_X5_sign 0 rfl) rfl ?_
  refine S_aload_n (dc_X5_sign 1 rfl) rfl ?_
  refine S_iload_n (dc_X5_sign 2 rfl) rfl ?_
  refine Sx.ask (fun _ i3 => ?_)
  obtain ⟨qq3, hq3, hs3⟩ := rs_X5_is_2 hc
  refine S_roI (d := k_d K - 1) (e_callV (b := a0) (As := [.int a1]) (rest := [.ref a0]) ok_X5_is_2 rfl (Nat.le_of_ble_eq_true rfl) (dc_X5_sign 3 rfl) ho q714 q715 hq3 hs3 (e_is_of i3) rfl (Nat.le_of_ble_eq_true rfl)) (by omega) (fun _ e => ct_X5_is_2 hc (by omega) e) (fun x3 e3 => ?_)
  refine S_iconst_ 1 (dc_X5_sign 4 rfl) rfl ?_
  obtain ⟨qq7, hq7, hs7⟩ := rs_X5_must hc
  refine S_exV (d := k_d K - 1) (e_callV (b := a0) (As := [.int x3, .int 1]) (rest := []) ok_X5_must rfl (Nat.le_of_ble_eq_true rfl) (dc_X5_sign 5 rfl) ho q688 q689 hq7 hs7 (e_is_of i3) rfl (Nat.le_of_ble_eq_true rfl)) (by omega) (fun _ _ e => ct_X5_must hc (by omega) e) (fun z7 h7 e7 => ?_) (fun _ h7 e7 => ?_)
  · exact SxX.out (hX _) (fun q => by cases q; exact hr)
  refine S_aload_n (dc_X5_sign 6 rfl) rfl ?_
  refine Sx.ask (fun _ i11 => ?_)
  obtain ⟨qq11, hq11, hs11⟩ := rs_X5_next hc
  refine S_rwV (d := k_d K - 1) (e_callV (b := a0) (As := []) (rest := []) ok_X5_next rfl (Nat.le_of_ble_eq_true rfl) (dc_X5_sign 7 rfl) ho q600 q601 hq11 hs11 (e_is_of i11) rfl (Nat.le_of_ble_eq_true rfl)) (by omega) (fun _ e => ct_X5_next hc (by omega) e) (fun h11 e11 => ?_)
  exact S_vret (dc_X5_sign 8 rfl) hT (fun q => by cases q; exact hr)
abbrev cX7_step : ByteArray := prog_8_method_3_code
def yX7_step : MethodName := ⟨"PegBands$CallsReader", "step", "()I"⟩
def tb_X7_step : List (Nat × Instr × Nat) := [(0, .aload_n 0, 1), (1, .bipush 45, 2), (3, .invokevirtual 84, 3), (6, .istore_n 1, 1), (7, .iload_n 1, 1), (8, .ifCond .eq 7, 3), (11, .aload_n 0, 1), (12, .invokevirtual 70, 3), (15, .aload_n 0, 1), (16, .iconst 0, 1), (17, .bipush 9, 2), (19, .invokevirtual 40, 3), (22, .istore_n 2, 1), (23, .iload_n 1, 1), (24, .ifCond .eq 8, 3), (27, .iload_n 2, 1), (28, .ineg, 1), (29, .goto 4, 3), (32, .iload_n 2, 1), (33, .ireturn, 1)]
theorem tk_X7_step : ∀ q ∈ tb_X7_step, decode cX7_step q.1 = .ok q.2 := by decide +kernel
theorem dc_X7_step (k : Nat) {pc n : Nat} {i : Instr} (h : tb_X7_step[k]? = some (pc, i, n)) : decode cX7_step pc = .ok (i, n) := tk_X7_step (pc, i, n) (List.mem_of_getElem? h)
abbrev mX7_step : e_M := (yX7_step, cX7_step, 3, some (.int), [])
theorem ok_X7_step : e_mok mX7_step 0 := ⟨q1031, q116, by decide +kernel, fun sig h => by cases h; rfl⟩
def f_X7_step (F : Nat) (h : e_H) (a0 : Nat) : Option (Except (Nat × Nat) Int32 × e_H) :=
  Option.bind (e_is h a0 5) (fun _ =>
  Option.bind (f_X5_is_2 5 h a0 45) (fun x3 =>
  Option.bind (
      if x3 = 0 then
        some h
      else
        Option.bind (f_X5_next F 5 h a0) (fun h12 =>
        some h12)
    : Option (e_H)) (fun h15_1 =>
  Option.bind (e_is h15_1 a0 5) (fun _ =>
  e_b3 (f_X5_number F 5 h15_1 a0 0 9) (fun z19 h19 =>
      some (.error z19, h19)) (fun x19 h19 =>
  if x3 = 0 then
    some (.ok x19, h19)
  else
    some (.ok (-x19), h19))))))
set_option maxHeartbeats 4000000 in
set_option maxRecDepth 100000 in
theorem ct_X7_step {l : Launch} {D : e_D} {B : Heap} {F : Nat} {d : Nat} {h : e_H} {a0 : Nat} {o : Except (Nat × Nat) Int32} {h1 : e_H} (hd : 6 ≤ d) (e : f_X7_step F h a0 = some (o, h1)) : e_Run l D B d mX7_step [.ref a0] h (o.map (fun v => some (.int v)), h1) := by
  refine e_start [some (.ref a0), none, none] (by decide) rfl rfl rfl (Nat.le_of_ble_eq_true rfl) (fun K hl0 hD0 hB0 hM hd0 hr => ?_)
  subst hl0 hD0 hB0 hd0
  have ho : (k_M K).1.cls = "PegBands$CallsReader" := by rw [hM]; rfl
  have hT : (k_M K).2.2.2.1 = some (.int) := by rw [hM]
  have hX : ∀ pc, ∀ z ∈ tableOf (k_M K).2.2.2.2, covers z pc = false := by rw [hM]; intro pc z hz; cases hz
  refine (show Sx K cX7_step 0 [some (.ref a0), none, none] [] h (f_X7_step F h a0) (fun w => w = (o, h1)) from ?_) _ e rfl
  clear e
  unfold f_X7_step
  refine S_aload_n (dc_X7_step 0 rfl) rfl ?_
  refine S_bipush_ 45 (dc_X7_step 1 rfl) rfl ?_
  refine Sx.ask (fun _ i3 => ?_)
  refine S_roI (d := k_d K - 1) (e_callVU (b := a0) (x := ⟨"PegBands$CallsReader", "is", "(I)Z"⟩) (owner := "PegBands$Reader") (As := [.int 45]) (rest := []) ok_X5_is_2 rfl (Nat.le_of_ble_eq_true rfl) (dc_X7_step 2 rfl) ho q1032 q1033 (Or.inr ⟨rfl, q715⟩) (by decide) q715 rfl (show e_cl[5]? = some (RX7, TX7, 9) from rfl) (e_sel.of q1034) (e_is_of i3) rfl (Nat.le_of_ble_eq_true rfl)) (by omega) (fun _ e => ct_X5_is_2 (by decide) (by omega) e) (fun x3 e3 => ?_)
  refine S_istore_n (L' := [some (.ref a0), some (.int x3), none]) (dc_X7_step 3 rfl) rfl ?_
  refine S_iload_n (dc_X7_step 4 rfl) rfl ?_
  refine Sx.regK1 (pc2 := 15) (L2 := fun (h15_1 : e_H) => [some (.ref a0), some (.int x3), none]) (st2 := fun (h15_1 : e_H) => []) (h2 := fun (h15_1 : e_H) => h15_1) ?_ (fun Q1 hK1 => ?_)
  · intro h15_1
    show Sx K cX7_step 15 [some (.ref a0), some (.int x3), none] [] h15_1 _ _
    refine S_aload_n (dc_X7_step 8 rfl) rfl ?_
    refine S_iconst_ 0 (dc_X7_step 9 rfl) rfl ?_
    refine S_bipush_ 9 (dc_X7_step 10 rfl) rfl ?_
    refine Sx.ask (fun _ i19 => ?_)
    refine S_exI (d := k_d K - 1) (e_callVU (b := a0) (x := ⟨"PegBands$CallsReader", "number", "(II)I"⟩) (owner := "PegBands$Reader") (As := [.int 0, .int 9]) (rest := []) ok_X5_number rfl (Nat.le_of_ble_eq_true rfl) (dc_X7_step 11 rfl) ho q1012 q1013 (Or.inr ⟨rfl, q706⟩) (by decide) q706 rfl (show e_cl[5]? = some (RX7, TX7, 9) from rfl) (e_sel.of q1014) (e_is_of i19) rfl (Nat.le_of_ble_eq_true rfl)) (by omega) (fun _ _ e => ct_X5_number (by decide) (by omega) e) (fun z19 h19 e19 => ?_) (fun x19 h19 e19 => ?_)
    · exact SxX.out (hX _) (fun q => by cases q; exact hr)
    refine S_istore_n (L' := [some (.ref a0), some (.int x3), some (.int x19)]) (dc_X7_step 12 rfl) rfl ?_
    refine S_iload_n (dc_X7_step 13 rfl) rfl ?_
    refine S_if_eq 32 (dc_X7_step 14 rfl) rfl (fun c24 => ?_) (fun c24 => ?_)
    · refine S_iload_n (dc_X7_step 18 rfl) rfl ?_
      exact S_iret (dc_X7_step 19 rfl) hT rfl (fun q => by cases q; exact hr)
    · refine S_iload_n (dc_X7_step 15 rfl) rfl ?_
      refine S_ineg (dc_X7_step 16 rfl) ?_
      refine S_goto 33 (dc_X7_step 17 rfl) rfl ?_
      exact S_iret (dc_X7_step 19 rfl) hT rfl (fun q => by cases q; exact hr)
  · have hK1 : ∀ (h15_1 : e_H), Sx K cX7_step 15 [some (.ref a0), some (.int x3), none] [] h15_1 (some h15_1) Q1 := hK1
    refine S_if_eq 15 (dc_X7_step 5 rfl) rfl (fun c8 => ?_) (fun c8 => ?_)
    · exact hK1 h
    · refine S_aload_n (dc_X7_step 6 rfl) rfl ?_
      refine S_rwV (d := k_d K - 1) (e_callVU (b := a0) (x := ⟨"PegBands$CallsReader", "next", "()V"⟩) (owner := "PegBands$Reader") (As := []) (rest := []) ok_X5_next rfl (Nat.le_of_ble_eq_true rfl) (dc_X7_step 7 rfl) ho q1025 q1026 (Or.inr ⟨rfl, q601⟩) (by decide) q601 rfl (show e_cl[5]? = some (RX7, TX7, 9) from rfl) (e_sel.of q1027) (e_is_of i3) rfl (Nat.le_of_ble_eq_true rfl)) (by omega) (fun _ e => ct_X5_next (by decide) (by omega) e) (fun h12 e12 => ?_)
      exact hK1 h12
abbrev cX7_read : ByteArray := prog_8_method_2_code
def yX7_read : MethodName := ⟨"PegBands$CallsReader", "read", "(LPegBands$Calls;)V"⟩
def tb_X7_read : List (Nat × Instr × Nat) := [(0, .aload_n 0, 1), (1, .invokevirtual 15, 3), (4, .aload_n 0, 1), (5, .ldc 19, 2), (7, .invokevirtual 21, 3), (10, .aload_n 1, 1), (11, .iconst 0, 1), (12, .putfield 25, 3), (15, .aload_n 1, 1), (16, .aload_n 0, 1), (17, .iconst 0, 1), (18, .aload_n 0, 1), (19, .getfield 3, 3), (22, .getfield 31, 3), (25, .getfield 35, 3), (28, .iconst 1, 1), (29, .isub, 1), (30, .invokevirtual 40, 3), (33, .putfield 44, 3), (36, .aload_n 1, 1), (37, .aload_n 0, 1), (38, .iconst 0, 1), (39, .aload_n 0, 1), (40, .getfield 3, 3), (43, .getfield 31, 3), (46, .getfield 47, 3), (49, .iconst 1, 1), (50, .isub, 1), (51, .invokevirtual 40, 3), (54, .putfield 50, 3), (57, .aload_n 0, 1), (58, .bipush 59, 2), (60, .invokevirtual 53, 3), (63, .aload_n 0, 1), (64, .getfield 57, 3), (67, .ifCond .ne 11, 3), (70, .aload_n 1, 1), (71, .getfield 25, 3), (74, .iconst 3, 1), (75, .if_icmp .ge 82, 3), (78, .aload_n 0, 1), (79, .aload_n 0, 1), (80, .ldc 60, 2), (82, .invokevirtual 62, 3), (85, .iconst 1, 1), (86, .invokevirtual 66, 3), (89, .aload_n 0, 1), (90, .aload_n 1, 1), (91, .getfield 25, 3), (94, .bipush 8, 2), (96, .if_icmp .ge 7, 3), (99, .iconst 1, 1), (100, .goto 4, 3), (103, .iconst 0, 1), (104, .iconst 4, 1), (105, .invokevirtual 66, 3), (108, .aload_n 0, 1), (109, .invokevirtual 70, 3), (112, .aload_n 1, 1), (113, .getfield 73, 3), (116, .aload_n 1, 1), (117, .getfield 25, 3), (120, .aload_n 0, 1), (121, .invokevirtual 77, 3), (124, .iastore, 1), (125, .aload_n 1, 1), (126, .getfield 81, 3), (129, .aload_n 1, 1), (130, .getfield 25, 3), (133, .aload_n 0, 1), (134, .invokevirtual 77, 3), (137, .iastore, 1), (138, .aload_n 1, 1), (139, .dup, 1), (140, .getfield 25, 3), (143, .iconst 1, 1), (144, .iadd, 1), (145, .putfield 25, 3), (148, .aload_n 0, 1), (149, .bipush 59, 2), (151, .invokevirtual 53, 3), (154, .goto (-91), 3), (157, .return_, 1)]
theorem tk_X7_read : ∀ q ∈ tb_X7_read, decode cX7_read q.1 = .ok q.2 := by decide +kernel
theorem dc_X7_read (k : Nat) {pc n : Nat} {i : Instr} (h : tb_X7_read[k]? = some (pc, i, n)) : decode cX7_read pc = .ok (i, n) := tk_X7_read (pc, i, n) (List.mem_of_getElem? h)
abbrev mX7_read : e_M := (yX7_read, cX7_read, 2, none, [])
theorem ok_X7_read : e_mok mX7_read 1 := ⟨q1004, q116, by decide +kernel, fun sig h => by cases h; rfl⟩
theorem fl_X7_25_3_4 : e_FL "PegBands$CallsReader" 25 3 4 := ⟨_, rfl, by decide, Or.inr (Or.inr (Or.inl ⟨_, q297⟩))⟩
theorem fl_X7_31_0_6 : e_FL "PegBands$CallsReader" 31 0 6 := ⟨_, rfl, by decide, Or.inr (Or.inr (Or.inl ⟨_, q462⟩))⟩
theorem fl_X7_35_2_2 : e_FL "PegBands$CallsReader" 35 2 2 := ⟨_, rfl, by decide, Or.inr (Or.inr (Or.inl ⟨_, q249⟩))⟩
theorem fl_X7_44_3_2 : e_FL "PegBands$CallsReader" 44 3 2 := ⟨_, rfl, by decide, Or.inr (Or.inr (Or.inl ⟨_, q294⟩))⟩
theorem fl_X7_47_2_3 : e_FL "PegBands$CallsReader" 47 2 3 := ⟨_, rfl, by decide, Or.inr (Or.inr (Or.inl ⟨_, q254⟩))⟩
theorem fl_X7_50_3_3 : e_FL "PegBands$CallsReader" 50 3 3 := ⟨_, rfl, by decide, Or.inr (Or.inr (Or.inl ⟨_, q296⟩))⟩
theorem fl_X7_57_5_3 : e_FL "PegBands$CallsReader" 57 5 3 := ⟨_, rfl, by decide, Or.inr (Or.inl ⟨_, q330, q331⟩)⟩
theorem fl_X7_73_3_0 : e_FL "PegBands$CallsReader" 73 3 0 := ⟨_, rfl, by decide, Or.inr (Or.inr (Or.inl ⟨_, q290⟩))⟩
theorem fl_X7_81_3_1 : e_FL "PegBands$CallsReader" 81 3 1 := ⟨_, rfl, by decide, Or.inr (Or.inr (Or.inl ⟨_, q292⟩))⟩
def lp_X7_read_63 (F : Nat) (A : Nat → Nat) (a0 : Nat) (a1 : Nat) : Nat → e_H → Option (Except (Except (Nat × Nat) Unit × e_H) e_H)
  | 0, _ => none
  | n + 1, h_63 =>
    Option.bind (e_fI h_63 a0 5 3) (fun x64 =>
    e_bE (
        if x64 = 0 then
          Option.bind (e_fI h_63 a1 3 4) (fun x71 =>
          if 3 ≤ x71 then
            some (.error (.ok h_63))
          else
            some (.ok ()))
        else
          some (.ok ())
      : Option (Except (Except (Except (Nat × Nat) Unit × e_H) e_H) Unit)) (fun _ =>
    Option.bind (f_X5_is F A 5 h_63 a0 (A 5)) (fun x82 =>
    e_b3 (f_X5_must 5 h_63 a0 x82 1) (fun z86 h86 =>
        some (.error (.error z86, h86))) (fun _ h86 =>
    Option.bind (e_fI h86 a1 3 4) (fun x91 =>
    Option.bind (
        if 8 ≤ x91 then
          some 0
        else
          some 1
      : Option (Int32)) (fun s104_3 =>
    Option.bind (e_is h86 a0 5) (fun _ =>
    e_b3 (f_X5_must 5 h86 a0 s104_3 4) (fun z105 h105 =>
        some (.error (.error z105, h105))) (fun _ h105 =>
    Option.bind (e_is h105 a0 5) (fun _ =>
    Option.bind (f_X5_next F 5 h105 a0) (fun h109 =>
    Option.bind (e_fA h109 a1 3 0) (fun x113 =>
    Option.bind (e_fI h109 a1 3 4) (fun x117 =>
    Option.bind (e_is h109 a0 5) (fun _ =>
    e_b3 (f_X7_step F h109 a0) (fun z121 h121 =>
        some (.error (.error z121, h121))) (fun x121 h121 =>
    Option.bind (e_wI h121 x113 0 x117 x121) (fun h124 =>
    Option.bind (e_fA h124 a1 3 1) (fun x126 =>
    Option.bind (e_fI h124 a1 3 4) (fun x130 =>
    Option.bind (e_is h124 a0 5) (fun _ =>
    e_b3 (f_X7_step F h124 a0) (fun z134 h134 =>
        some (.error (.error z134, h134))) (fun x134 h134 =>
    Option.bind (e_wI h134 x126 0 x130 x134) (fun h137 =>
    Option.bind (e_fI h137 a1 3 4) (fun x140 =>
    Option.bind (e_gI h137 a1 3 4 (x140 + 1)) (fun h145 =>
    Option.bind (e_is h145 a0 5) (fun _ =>
    e_b3 (f_X5_sign F 5 h145 a0 59) (fun z151 h151 =>
        some (.error (.error z151, h151))) (fun _ h151 =>
    lp_X7_read_63 F A a0 a1 n h151))))))))))))))))))))))))
def f_X7_read (F : Nat) (A : Nat → Nat) (h : e_H) (a0 : Nat) (a1 : Nat) : Option (Except (Nat × Nat) Unit × e_H) :=
  Option.bind (e_is h a0 5) (fun _ =>
  Option.bind (f_X5_begin F 5 h a0) (fun h1 =>
  Option.bind (e_is h1 a0 5) (fun _ =>
  e_b3 (f_X5_word F A 5 h1 a0 (A 4)) (fun z7 h7 =>
      some (.error z7, h7)) (fun _ h7 =>
  Option.bind (e_gI h7 a1 3 4 0) (fun h12 =>
  Option.bind (e_fA h12 a0 5 8) (fun x19 =>
  Option.bind (e_fA h12 x19 0 6) (fun x22 =>
  Option.bind (e_fI h12 x22 2 2) (fun x25 =>
  e_b3 (f_X5_number F 5 h12 a0 0 (x25 - 1)) (fun z30 h30 =>
      some (.error z30, h30)) (fun x30 h30 =>
  Option.bind (e_gI h30 a1 3 2 x30) (fun h33 =>
  Option.bind (e_fA h33 a0 5 8) (fun x40 =>
  Option.bind (e_fA h33 x40 0 6) (fun x43 =>
  Option.bind (e_fI h33 x43 2 3) (fun x46 =>
  e_b3 (f_X5_number F 5 h33 a0 0 (x46 - 1)) (fun z51 h51 =>
      some (.error z51, h51)) (fun x51 h51 =>
  Option.bind (e_gI h51 a1 3 3 x51) (fun h54 =>
  Option.bind (e_is h54 a0 5) (fun _ =>
  e_b3 (f_X5_sign F 5 h54 a0 59) (fun z60 h60 =>
      some (.error z60, h60)) (fun _ h60 =>
  e_bE (
      lp_X7_read_63 F A a0 a1 F h60
    : Option (Except (Except (Nat × Nat) Unit × e_H) e_H)) (fun h157_1 =>
  some (.ok (), h157_1)))))))))))))))))))
set_option maxHeartbeats 4000000 in
set_option maxRecDepth 100000 in
theorem ct_X7_read {l : Launch} {D : e_D} {B : Heap} {F : Nat} {A : Nat → Nat} {d : Nat} {h : e_H} {a0 : Nat} {a1 : Nat} {o : Except (Nat × Nat) Unit} {h1 : e_H} (hA : D.2.2.1 = A) (hd : 8 ≤ d) (e : f_X7_read F A h a0 a1 = some (o, h1)) : e_Run l D B d mX7_read [.ref a0, .ref a1] h (o.map (fun _ => none), h1) := by
  refine e_start [some (.ref a0), some (.ref a1)] (by decide) rfl rfl rfl (Nat.le_of_ble_eq_true rfl) (fun K hl0 hD0 hB0 hM hd0 hr => ?_)
  subst hl0 hD0 hB0 hd0
  have ho : (k_M K).1.cls = "PegBands$CallsReader" := by rw [hM]; rfl
  have hT : (k_M K).2.2.2.1 = none := by rw [hM]
  have hX : ∀ pc, ∀ z ∈ tableOf (k_M K).2.2.2.2, covers z pc = false := by rw [hM]; intro pc z hz; cases hz
  refine (show Sx K cX7_read 0 [some (.ref a0), some (.ref a1)] [] h (f_X7_read F A h a0 a1) (fun w => w = (o, h1)) from ?_) _ e rfl
  clear e
  unfold f_X7_read
  refine S_aload_n (dc_X7_read 0 rfl) rfl ?_
  refine Sx.ask (fun _ i1 => ?_)
  refine S_rwV (d := k_d K - 1) (e_callVU (b := a0) (x := ⟨"PegBands$CallsReader", "begin", "()V"⟩) (owner := "PegBands$Reader") (As := []) (rest := []) ok_X5_begin rfl (Nat.le_of_ble_eq_true rfl) (dc_X7_read 1 rfl) ho q1005 q1006 (Or.inr ⟨rfl, q598⟩) (by decide) q598 rfl (show e_cl[5]? = some (RX7, TX7, 9) from rfl) (e_sel.of q1007) (e_is_of i1) rfl (Nat.le_of_ble_eq_true rfl)) (by omega) (fun _ e => ct_X5_begin (by decide) (by omega) e) (fun h1 e1 => ?_)
  refine S_aload_n (dc_X7_read 2 rfl) rfl ?_
  refine S_ldcS (j := 4) hA (dc_X7_read 3 rfl) ho (List.mem_of_getElem? (i := 26) rfl) ?_
  refine Sx.ask (fun _ i7 => ?_)
  refine S_exV (d := k_d K - 1) (e_callVU (b := a0) (x := ⟨"PegBands$CallsReader", "word", "(Ljava/lang/String;)V"⟩) (owner := "PegBands$Reader") (As := [.ref (A 4)]) (rest := []) ok_X5_word rfl (Nat.le_of_ble_eq_true rfl) (dc_X7_read 4 rfl) ho q1009 q1010 (Or.inr ⟨rfl, q631⟩) (by decide) q631 rfl (show e_cl[5]? = some (RX7, TX7, 9) from rfl) (e_sel.of q1011) (e_is_of i7) rfl (Nat.le_of_ble_eq_true rfl)) (by omega) (fun _ _ e => ct_X5_word (by decide) hA (by omega) e) (fun z7 h7 e7 => ?_) (fun _ h7 e7 => ?_)
  · exact SxX.out (hX _) (fun q => by cases q; exact hr)
  refine S_aload_n (dc_X7_read 5 rfl) rfl ?_
  refine S_iconst_ 0 (dc_X7_read 6 rfl) rfl ?_
  refine S_putI (dc_X7_read 7 rfl) ho fl_X7_25_3_4 (fun _ _ => rfl) (Or.inl rfl) rfl rfl (fun h12 e12 => ?_)
  refine S_aload_n (dc_X7_read 8 rfl) rfl ?_
  refine S_aload_n (dc_X7_read 9 rfl) rfl ?_
  refine S_iconst_ 0 (dc_X7_read 10 rfl) rfl ?_
  refine S_aload_n (dc_X7_read 11 rfl) rfl ?_
  refine S_getA (dc_X7_read 12 rfl) ho fl_X7_3_5_8 (fun _ _ => rfl) (fun x19 e19 => ?_)
  refine S_getA (dc_X7_read 13 rfl) ho fl_X7_31_0_6 (fun _ _ => rfl) (fun x22 e22 => ?_)
  refine S_getI (dc_X7_read 14 rfl) ho fl_X7_35_2_2 (fun _ _ => rfl) (fun x25 e25 => ?_)
  refine S_iconst_ 1 (dc_X7_read 15 rfl) rfl ?_
  refine S_isub (dc_X7_read 16 rfl) ?_
  refine S_exI (d := k_d K - 1) (e_callVU (b := a0) (x := ⟨"PegBands$CallsReader", "number", "(II)I"⟩) (owner := "PegBands$Reader") (As := [.int 0, .int (x25 - 1)]) (rest := [.ref a1]) ok_X5_number rfl (Nat.le_of_ble_eq_true rfl) (dc_X7_read 17 rfl) ho q1012 q1013 (Or.inr ⟨rfl, q706⟩) (by decide) q706 rfl (show e_cl[5]? = some (RX7, TX7, 9) from rfl) (e_sel.of q1014) (e_fA_of e19).1 rfl (Nat.le_of_ble_eq_true rfl)) (by omega) (fun _ _ e => ct_X5_number (by decide) (by omega) e) (fun z30 h30 e30 => ?_) (fun x30 h30 e30 => ?_)
  · exact SxX.out (hX _) (fun q => by cases q; exact hr)
  refine S_putI (dc_X7_read 18 rfl) ho fl_X7_44_3_2 (fun _ _ => rfl) (Or.inl rfl) rfl rfl (fun h33 e33 => ?_)
  refine S_aload_n (dc_X7_read 19 rfl) rfl ?_
  refine S_aload_n (dc_X7_read 20 rfl) rfl ?_
  refine S_iconst_ 0 (dc_X7_read 21 rfl) rfl ?_
  refine S_aload_n (dc_X7_read 22 rfl) rfl ?_
  refine S_getA (dc_X7_read 23 rfl) ho fl_X7_3_5_8 (fun _ _ => rfl) (fun x40 e40 => ?_)
  refine S_getA (dc_X7_read 24 rfl) ho fl_X7_31_0_6 (fun _ _ => rfl) (fun x43 e43 => ?_)
  refine S_getI (dc_X7_read 25 rfl) ho fl_X7_47_2_3 (fun _ _ => rfl) (fun x46 e46 => ?_)
  refine S_iconst_ 1 (dc_X7_read 26 rfl) rfl ?_
  refine S_isub (dc_X7_read 27 rfl) ?_
  refine S_exI (d := k_d K - 1) (e_callVU (b := a0) (x := ⟨"PegBands$CallsReader", "number", "(II)I"⟩) (owner := "PegBands$Reader") (As := [.int 0, .int (x46 - 1)]) (rest := [.ref a1]) ok_X5_number rfl (Nat.le_of_ble_eq_true rfl) (dc_X7_read 28 rfl) ho q1012 q1013 (Or.inr ⟨rfl, q706⟩) (by decide) q706 rfl (show e_cl[5]? = some (RX7, TX7, 9) from rfl) (e_sel.of q1014) (e_fA_of e40).1 rfl (Nat.le_of_ble_eq_true rfl)) (by omega) (fun _ _ e => ct_X5_number (by decide) (by omega) e) (fun z51 h51 e51 => ?_) (fun x51 h51 e51 => ?_)
  · exact SxX.out (hX _) (fun q => by cases q; exact hr)
  refine S_putI (dc_X7_read 29 rfl) ho fl_X7_50_3_3 (fun _ _ => rfl) (Or.inl rfl) rfl rfl (fun h54 e54 => ?_)
  refine S_aload_n (dc_X7_read 30 rfl) rfl ?_
  refine S_bipush_ 59 (dc_X7_read 31 rfl) rfl ?_
  refine Sx.ask (fun _ i60 => ?_)
  refine S_exV (d := k_d K - 1) (e_callVU (b := a0) (x := ⟨"PegBands$CallsReader", "sign", "(I)V"⟩) (owner := "PegBands$Reader") (As := [.int 59]) (rest := []) ok_X5_sign rfl (Nat.le_of_ble_eq_true rfl) (dc_X7_read 32 rfl) ho q1015 q1016 (Or.inr ⟨rfl, q712⟩) (by decide) q712 rfl (show e_cl[5]? = some (RX7, TX7, 9) from rfl) (e_sel.of q1017) (e_is_of i60) rfl (Nat.le_of_ble_eq_true rfl)) (by omega) (fun _ _ e => ct_X5_sign (by decide) (by omega) e) (fun z60 h60 e60 => ?_) (fun _ h60 e60 => ?_)
  · exact SxX.out (hX _) (fun q => by cases q; exact hr)
  refine Sx.regKE1 (pc2 := 157) (L2 := fun (h157_1 : e_H) => [none, none]) (st2 := fun (h157_1 : e_H) => []) (h2 := fun (h157_1 : e_H) => h157_1) ?_ (fun Q1 hK1 hE1 => ?_)
  · intro h157_1
    show Sx K cX7_read 157 [none, none] [] h157_1 _ _
    exact S_vret (dc_X7_read 82 rfl) hT (fun q => by cases q; exact hr)
  · have hK1 : ∀ (h157_1 : e_H), Sx K cX7_read 157 [none, none] [] h157_1 (some (.ok h157_1)) Q1 := hK1
    have ih1 : ∀ (n : Nat) (h_63 : e_H), Sx K cX7_read 63 [some (.ref a0), some (.ref a1)] [] h_63 (lp_X7_read_63 F A a0 a1 n h_63) Q1 := by
      intro n
      induction n with
      | zero => intro h_63; exact Sx.none
      | succ n ih1 =>
        intro h_63
        rw [lp_X7_read_63.eq_2]
        refine S_aload_n (dc_X7_read 33 rfl) rfl ?_
        refine S_getI (dc_X7_read 34 rfl) ho fl_X7_57_5_3 (fun _ _ => rfl) (fun x64 e64 => ?_)
        refine Sx.regKE0 (pc2 := 78) (L2 := [some (.ref a0), some (.ref a1)]) (st2 := []) (h2 := h_63) ?_ (fun Q2 hK2 hE2 => ?_)
        · skip
          refine S_aload_n (dc_X7_read 40 rfl) rfl ?_
          refine S_aload_n (dc_X7_read 41 rfl) rfl ?_
          refine S_ldcS (j := 5) hA (dc_X7_read 42 rfl) ho (List.mem_of_getElem? (i := 27) rfl) ?_
          refine S_roI (d := k_d K - 1) (e_callVU (b := a0) (x := ⟨"PegBands$CallsReader", "is", "(Ljava/lang/String;)Z"⟩) (owner := "PegBands$Reader") (As := [.ref (A 5)]) (rest := [.ref a0]) ok_X5_is rfl (Nat.le_of_ble_eq_true rfl) (dc_X7_read 43 rfl) ho q1019 q1020 (Or.inr ⟨rfl, q634⟩) (by decide) q634 rfl (show e_cl[5]? = some (RX7, TX7, 9) from rfl) (e_sel.of q1021) (e_fI_of e64).1 rfl (Nat.le_of_ble_eq_true rfl)) (by omega) (fun _ e => ct_X5_is (by decide) hA (by omega) e) (fun x82 e82 => ?_)
          refine S_iconst_ 1 (dc_X7_read 44 rfl) rfl ?_
          refine S_exV (d := k_d K - 1) (e_callVU (b := a0) (x := ⟨"PegBands$CallsReader", "must", "(ZI)V"⟩) (owner := "PegBands$Reader") (As := [.int x82, .int 1]) (rest := []) ok_X5_must rfl (Nat.le_of_ble_eq_true rfl) (dc_X7_read 45 rfl) ho q1022 q1023 (Or.inr ⟨rfl, q689⟩) (by decide) q689 rfl (show e_cl[5]? = some (RX7, TX7, 9) from rfl) (e_sel.of q1024) (e_fI_of e64).1 rfl (Nat.le_of_ble_eq_true rfl)) (by omega) (fun _ _ e => ct_X5_must (by decide) (by omega) e) (fun z86 h86 e86 => ?_) (fun _ h86 e86 => ?_)
          · refine SxX.err hE1 ?_
            exact SxX.out (hX _) (fun q => by cases q; exact hr)
          refine S_aload_n (dc_X7_read 46 rfl) rfl ?_
          refine S_aload_n (dc_X7_read 47 rfl) rfl ?_
          refine S_getI (dc_X7_read 48 rfl) ho fl_X7_25_3_4 (fun _ _ => rfl) (fun x91 e91 => ?_)
          refine S_bipush_ 8 (dc_X7_read 49 rfl) rfl ?_
          refine Sx.regK1 (pc2 := 104) (L2 := fun (s104_3 : Int32) => [some (.ref a0), some (.ref a1)]) (st2 := fun (s104_3 : Int32) => [.int s104_3, .ref a0]) (h2 := fun (s104_3 : Int32) => h86) ?_ (fun Q3 hK3 => ?_)
          · intro s104_3
            show Sx K cX7_read 104 [some (.ref a0), some (.ref a1)] [.int s104_3, .ref a0] h86 _ _
            refine S_iconst_ 4 (dc_X7_read 54 rfl) rfl ?_
            refine Sx.ask (fun _ i105 => ?_)
            refine S_exV (d := k_d K - 1) (e_callVU (b := a0) (x := ⟨"PegBands$CallsReader", "must", "(ZI)V"⟩) (owner := "PegBands$Reader") (As := [.int s104_3, .int 4]) (rest := []) ok_X5_must rfl (Nat.le_of_ble_eq_true rfl) (dc_X7_read 55 rfl) ho q1022 q1023 (Or.inr ⟨rfl, q689⟩) (by decide) q689 rfl (show e_cl[5]? = some (RX7, TX7, 9) from rfl) (e_sel.of q1024) (e_is_of i105) rfl (Nat.le_of_ble_eq_true rfl)) (by omega) (fun _ _ e => ct_X5_must (by decide) (by omega) e) (fun z105 h105 e105 => ?_) (fun _ h105 e105 => ?_)
            · refine SxX.err hE1 ?_
              exact SxX.out (hX _) (fun q => by cases q; exact hr)
            refine S_aload_n (dc_X7_read 56 rfl) rfl ?_
            refine Sx.ask (fun _ i109 => ?_)
            refine S_rwV (d := k_d K - 1) (e_callVU (b := a0) (x := ⟨"PegBands$CallsReader", "next", "()V"⟩) (owner := "PegBands$Reader") (As := []) (rest := []) ok_X5_next rfl (Nat.le_of_ble_eq_true rfl) (dc_X7_read 57 rfl) ho q1025 q1026 (Or.inr ⟨rfl, q601⟩) (by decide) q601 rfl (show e_cl[5]? = some (RX7, TX7, 9) from rfl) (e_sel.of q1027) (e_is_of i109) rfl (Nat.le_of_ble_eq_true rfl)) (by omega) (fun _ e => ct_X5_next (by decide) (by omega) e) (fun h109 e109 => ?_)
            refine S_aload_n (dc_X7_read 58 rfl) rfl ?_
            refine S_getA (dc_X7_read 59 rfl) ho fl_X7_73_3_0 (fun _ _ => rfl) (fun x113 e113 => ?_)
            refine S_aload_n (dc_X7_read 60 rfl) rfl ?_
            refine S_getI (dc_X7_read 61 rfl) ho fl_X7_25_3_4 (fun _ _ => rfl) (fun x117 e117 => ?_)
            refine S_aload_n (dc_X7_read 62 rfl) rfl ?_
            refine Sx.ask (fun _ i121 => ?_)
            refine S_exI (d := k_d K - 1) (e_callV (b := a0) (As := []) (rest := [.int x117, .ref x113]) ok_X7_step rfl (Nat.le_of_ble_eq_true rfl) (dc_X7_read 63 rfl) ho q1028 q1030 (show e_cl[5]? = some (RX7, TX7, 9) from rfl) (e_sel.of qs12) (e_is_of i121) rfl (Nat.le_of_ble_eq_true rfl)) (by omega) (fun _ _ e => ct_X7_step (by omega) e) (fun z121 h121 e121 => ?_) (fun x121 h121 e121 => ?_)
            · refine SxX.err hE1 ?_
              exact SxX.out (hX _) (fun q => by cases q; exact hr)
            refine S_iast (dc_X7_read 64 rfl) (fun h124 e124 => ?_)
            refine S_aload_n (dc_X7_read 65 rfl) rfl ?_
            refine S_getA (dc_X7_read 66 rfl) ho fl_X7_81_3_1 (fun _ _ => rfl) (fun x126 e126 => ?_)
            refine S_aload_n (dc_X7_read 67 rfl) rfl ?_
            refine S_getI (dc_X7_read 68 rfl) ho fl_X7_25_3_4 (fun _ _ => rfl) (fun x130 e130 => ?_)
            refine S_aload_n (dc_X7_read 69 rfl) rfl ?_
            refine Sx.ask (fun _ i134 => ?_)
            refine S_exI (d := k_d K - 1) (e_callV (b := a0) (As := []) (rest := [.int x130, .ref x126]) ok_X7_step rfl (Nat.le_of_ble_eq_true rfl) (dc_X7_read 70 rfl) ho q1028 q1030 (show e_cl[5]? = some (RX7, TX7, 9) from rfl) (e_sel.of qs12) (e_is_of i134) rfl (Nat.le_of_ble_eq_true rfl)) (by omega) (fun _ _ e => ct_X7_step (by omega) e) (fun z134 h134 e134 => ?_) (fun x134 h134 e134 => ?_)
            · refine SxX.err hE1 ?_
              exact SxX.out (hX _) (fun q => by cases q; exact hr)
            refine S_iast (dc_X7_read 71 rfl) (fun h137 e137 => ?_)
            refine S_aload_n (dc_X7_read 72 rfl) rfl ?_
            refine S_dup (dc_X7_read 73 rfl) rfl ?_
            refine S_getI (dc_X7_read 74 rfl) ho fl_X7_25_3_4 (fun _ _ => rfl) (fun x140 e140 => ?_)
            refine S_iconst_ 1 (dc_X7_read 75 rfl) rfl ?_
            refine S_iadd (dc_X7_read 76 rfl) ?_
            refine S_putI (dc_X7_read 77 rfl) ho fl_X7_25_3_4 (fun _ _ => rfl) (Or.inl rfl) rfl rfl (fun h145 e145 => ?_)
            refine S_aload_n (dc_X7_read 78 rfl) rfl ?_
            refine S_bipush_ 59 (dc_X7_read 79 rfl) rfl ?_
            refine Sx.ask (fun _ i151 => ?_)
            refine S_exV (d := k_d K - 1) (e_callVU (b := a0) (x := ⟨"PegBands$CallsReader", "sign", "(I)V"⟩) (owner := "PegBands$Reader") (As := [.int 59]) (rest := []) ok_X5_sign rfl (Nat.le_of_ble_eq_true rfl) (dc_X7_read 80 rfl) ho q1015 q1016 (Or.inr ⟨rfl, q712⟩) (by decide) q712 rfl (show e_cl[5]? = some (RX7, TX7, 9) from rfl) (e_sel.of q1017) (e_is_of i151) rfl (Nat.le_of_ble_eq_true rfl)) (by omega) (fun _ _ e => ct_X5_sign (by decide) (by omega) e) (fun z151 h151 e151 => ?_) (fun _ h151 e151 => ?_)
            · refine SxX.err hE1 ?_
              exact SxX.out (hX _) (fun q => by cases q; exact hr)
            refine S_goto 63 (dc_X7_read 81 rfl) rfl ?_
            exact ih1 h151
          · have hK3 : ∀ (s104_3 : Int32), Sx K cX7_read 104 [some (.ref a0), some (.ref a1)] [.int s104_3, .ref a0] h86 (some s104_3) Q3 := hK3
            refine S_icmp_ge 103 (dc_X7_read 50 rfl) rfl (fun c96 => ?_) (fun c96 => ?_)
            · refine S_iconst_ 0 (dc_X7_read 53 rfl) rfl ?_
              exact hK3 0
            · refine S_iconst_ 1 (dc_X7_read 51 rfl) rfl ?_
              refine S_goto 104 (dc_X7_read 52 rfl) rfl ?_
              exact hK3 1
        · have hK2 : Sx K cX7_read 78 [some (.ref a0), some (.ref a1)] [] h_63 (some (.ok ())) Q2 := hK2
          refine S_if_ne 78 (dc_X7_read 35 rfl) rfl (fun c67 => ?_) (fun c67 => ?_)
          · exact hK2
          · refine S_aload_n (dc_X7_read 36 rfl) rfl ?_
            refine S_getI (dc_X7_read 37 rfl) ho fl_X7_25_3_4 (fun _ _ => rfl) (fun x71 e71 => ?_)
            refine S_iconst_ 3 (dc_X7_read 38 rfl) rfl ?_
            refine S_icmp_ge 157 (dc_X7_read 39 rfl) rfl (fun c75 => ?_) (fun c75 => ?_)
            · refine Sx.cut [false, false] ?_
              refine Sx.err hE2 ?_
              exact hK1 h_63
            · exact hK2
    exact ih1 F h60
abbrev cX4_be : ByteArray := prog_7_method_2_code
def yX4_be : MethodName := ⟨"PegBands$Calls", "be", "(LPegBands$Calls;)V"⟩
def tb_X4_be : List (Nat × Instr × Nat) := [(0, .aload_n 1, 1), (1, .getfield 9, 3), (4, .iconst 0, 1), (5, .aload_n 0, 1), (6, .getfield 9, 3), (9, .iconst 0, 1), (10, .bipush 8, 2), (12, .invokestatic 18, 3), (15, .aload_n 1, 1), (16, .getfield 15, 3), (19, .iconst 0, 1), (20, .aload_n 0, 1), (21, .getfield 15, 3), (24, .iconst 0, 1), (25, .bipush 8, 2), (27, .invokestatic 18, 3), (30, .aload_n 0, 1), (31, .aload_n 1, 1), (32, .getfield 24, 3), (35, .putfield 24, 3), (38, .aload_n 0, 1), (39, .aload_n 1, 1), (40, .getfield 28, 3), (43, .putfield 28, 3), (46, .aload_n 0, 1), (47, .aload_n 1, 1), (48, .getfield 31, 3), (51, .putfield 31, 3), (54, .return_, 1)]
theorem tk_X4_be : ∀ q ∈ tb_X4_be, decode cX4_be q.1 = .ok q.2 := by decide +kernel
theorem dc_X4_be (k : Nat) {pc n : Nat} {i : Instr} (h : tb_X4_be[k]? = some (pc, i, n)) : decode cX4_be pc = .ok (i, n) := tk_X4_be (pc, i, n) (List.mem_of_getElem? h)
abbrev mX4_be : e_M := (yX4_be, cX4_be, 2, none, [])
theorem ok_X4_be : e_mok mX4_be 1 := ⟨q1038, q113, by decide +kernel, fun sig h => by cases h; rfl⟩
theorem fl_X4_24_3_2 : e_FL "PegBands$Calls" 24 3 2 := ⟨_, rfl, by decide, Or.inl q293⟩
theorem fl_X4_28_3_3 : e_FL "PegBands$Calls" 28 3 3 := ⟨_, rfl, by decide, Or.inl q295⟩
theorem fl_X4_31_3_4 : e_FL "PegBands$Calls" 31 3 4 := ⟨_, rfl, by decide, Or.inl q298⟩
def f_X4_be (h : e_H) (a0 : Nat) (a1 : Nat) : Option e_H :=
  Option.bind (e_fA h a1 3 0) (fun x1 =>
  Option.bind (e_fA h a0 3 0) (fun x6 =>
  Option.bind (e_cpI h x1 0 x6 0 8) (fun h12 =>
  Option.bind (e_fA h12 a1 3 1) (fun x16 =>
  Option.bind (e_fA h12 a0 3 1) (fun x21 =>
  Option.bind (e_cpI h12 x16 0 x21 0 8) (fun h27 =>
  Option.bind (e_fI h27 a1 3 2) (fun x32 =>
  Option.bind (e_gI h27 a0 3 2 x32) (fun h35 =>
  Option.bind (e_fI h35 a1 3 3) (fun x40 =>
  Option.bind (e_gI h35 a0 3 3 x40) (fun h43 =>
  Option.bind (e_fI h43 a1 3 4) (fun x48 =>
  Option.bind (e_gI h43 a0 3 4 x48) (fun h51 =>
  some h51))))))))))))
set_option maxHeartbeats 4000000 in
set_option maxRecDepth 100000 in
theorem ct_X4_be {l : Launch} {D : e_D} {B : Heap} {d : Nat} {h : e_H} {a0 : Nat} {a1 : Nat} {h1 : e_H} (hd : 1 ≤ d) (e : f_X4_be h a0 a1 = some h1) : e_Run l D B d mX4_be [.ref a0, .ref a1] h (.ok none, h1) := by
  refine e_start [some (.ref a0), some (.ref a1)] (by decide) rfl rfl rfl (Nat.le_of_ble_eq_true rfl) (fun K hl0 hD0 hB0 hM hd0 hr => ?_)
  subst hl0 hD0 hB0 hd0
  have ho : (k_M K).1.cls = "PegBands$Calls" := by rw [hM]; rfl
  have hT : (k_M K).2.2.2.1 = none := by rw [hM]
  refine (show Sx K cX4_be 0 [some (.ref a0), some (.ref a1)] [] h (f_X4_be h a0 a1) (fun w => w = h1) from ?_) _ e rfl
  clear e
  unfold f_X4_be
  refine S_aload_n (dc_X4_be 0 rfl) rfl ?_
  refine S_getA (dc_X4_be 1 rfl) ho fl_X4_9_3_0 (fun _ _ => rfl) (fun x1 e1 => ?_)
  refine S_iconst_ 0 (dc_X4_be 2 rfl) rfl ?_
  refine S_aload_n (dc_X4_be 3 rfl) rfl ?_
  refine S_getA (dc_X4_be 4 rfl) ho fl_X4_9_3_0 (fun _ _ => rfl) (fun x6 e6 => ?_)
  refine S_iconst_ 0 (dc_X4_be 5 rfl) rfl ?_
  refine S_bipush_ 8 (dc_X4_be 6 rfl) rfl ?_
  refine S_copyI (dc_X4_be 7 rfl) ho q1039 (by omega) (Nat.le_of_ble_eq_true rfl) (fun h12 e12 => ?_)
  refine S_aload_n (dc_X4_be 8 rfl) rfl ?_
  refine S_getA (dc_X4_be 9 rfl) ho fl_X4_15_3_1 (fun _ _ => rfl) (fun x16 e16 => ?_)
  refine S_iconst_ 0 (dc_X4_be 10 rfl) rfl ?_
  refine S_aload_n (dc_X4_be 11 rfl) rfl ?_
  refine S_getA (dc_X4_be 12 rfl) ho fl_X4_15_3_1 (fun _ _ => rfl) (fun x21 e21 => ?_)
  refine S_iconst_ 0 (dc_X4_be 13 rfl) rfl ?_
  refine S_bipush_ 8 (dc_X4_be 14 rfl) rfl ?_
  refine S_copyI (dc_X4_be 15 rfl) ho q1039 (by omega) (Nat.le_of_ble_eq_true rfl) (fun h27 e27 => ?_)
  refine S_aload_n (dc_X4_be 16 rfl) rfl ?_
  refine S_aload_n (dc_X4_be 17 rfl) rfl ?_
  refine S_getI (dc_X4_be 18 rfl) ho fl_X4_24_3_2 (fun _ _ => rfl) (fun x32 e32 => ?_)
  refine S_putI (dc_X4_be 19 rfl) ho fl_X4_24_3_2 (fun _ _ => rfl) (Or.inl rfl) rfl rfl (fun h35 e35 => ?_)
  refine S_aload_n (dc_X4_be 20 rfl) rfl ?_
  refine S_aload_n (dc_X4_be 21 rfl) rfl ?_
  refine S_getI (dc_X4_be 22 rfl) ho fl_X4_28_3_3 (fun _ _ => rfl) (fun x40 e40 => ?_)
  refine S_putI (dc_X4_be 23 rfl) ho fl_X4_28_3_3 (fun _ _ => rfl) (Or.inl rfl) rfl rfl (fun h43 e43 => ?_)
  refine S_aload_n (dc_X4_be 24 rfl) rfl ?_
  refine S_aload_n (dc_X4_be 25 rfl) rfl ?_
  refine S_getI (dc_X4_be 26 rfl) ho fl_X4_31_3_4 (fun _ _ => rfl) (fun x48 e48 => ?_)
  refine S_putI (dc_X4_be 27 rfl) ho fl_X4_31_3_4 (fun _ _ => rfl) (Or.inl rfl) rfl rfl (fun h51 e51 => ?_)
  exact S_vret (dc_X4_be 28 rfl) hT (fun q => by cases q; exact hr)
