/-! printed by gen/gen.py -/
set_option maxRecDepth 100000
abbrev cX10_onMany : ByteArray := prog_18_method_58_code
def yX10_onMany : MethodName := ⟨"PegBandsModel", "onMany", "(I)I"⟩
def tb_X10_onMany : List (Nat × Instr × Nat) := [(0, .iconst 0, 1), (1, .istore_n 2, 1), (2, .iconst 0, 1), (3, .istore_n 3, 1), (4, .iload_n 3, 1), (5, .aload_n 0, 1), (6, .iload_n 1, 1), (7, .invokevirtual 279, 3), (10, .if_icmp .ge 45, 3), (13, .iload_n 2, 1), (14, .aload_n 0, 1), (15, .iload_n 1, 1), (16, .iload_n 3, 1), (17, .iconst 1, 1), (18, .iadd, 1), (19, .invokevirtual 285, 3), (22, .aload_n 0, 1), (23, .iload_n 1, 1), (24, .iload_n 3, 1), (25, .invokevirtual 285, 3), (28, .isub, 1), (29, .aload_n 0, 1), (30, .iload_n 1, 1), (31, .iload_n 3, 1), (32, .iconst 1, 1), (33, .iadd, 1), (34, .invokevirtual 289, 3), (37, .aload_n 0, 1), (38, .iload_n 1, 1), (39, .iload_n 3, 1), (40, .invokevirtual 289, 3), (43, .isub, 1), (44, .invokestatic 295, 3), (47, .iadd, 1), (48, .istore_n 2, 1), (49, .iinc 3 1, 3), (52, .goto (-48), 3), (55, .iload_n 2, 1), (56, .ireturn, 1)]
theorem tk_X10_onMany : ∀ q ∈ tb_X10_onMany, decode cX10_onMany q.1 = .ok q.2 := by decide +kernel
theorem dc_X10_onMany (k : Nat) {pc n : Nat} {i : Instr} (h : tb_X10_onMany[k]? = some (pc, i, n)) : decode cX10_onMany pc = .ok (i, n) := tk_X10_onMany (pc, i, n) (List.mem_of_getElem? h)
abbrev mX10_onMany : e_M := (yX10_onMany, cX10_onMany, 4, some (.int), [])
theorem ok_X10_onMany : e_mok mX10_onMany 1 := ⟨q1829, q119, by decide +kernel, fun sig h => by cases h; rfl⟩
def lp_X10_onMany_4 (F : Nat) (h : e_H) (a0 : Nat) (a1 : Int32) : Nat → Int32 → Int32 → Option (Int32)
  | 0, _, _ => none
  | n + 1, x2_4, x3_4 =>
    Option.bind (e_is h a0 8) (fun _ =>
    Option.bind (f_X10_corners h a0 a1) (fun x7 =>
    if x7 ≤ x3_4 then
      some x2_4
    else
      Option.bind (f_X10_x h a0 a1 (x3_4 + 1)) (fun x19 =>
      Option.bind (f_X10_x h a0 a1 x3_4) (fun x25 =>
      Option.bind (f_X10_y h a0 a1 (x3_4 + 1)) (fun x34 =>
      Option.bind (f_X10_y h a0 a1 x3_4) (fun x40 =>
      Option.bind (f_X10_common F (x19 - x25) (x34 - x40)) (fun x44 =>
      Option.bind (some (x2_4 + x44)) (fun x48 =>
      Option.bind (some (x3_4 + 1)) (fun x49 =>
      lp_X10_onMany_4 F h a0 a1 n x48 x49)))))))))
def f_X10_onMany (F : Nat) (h : e_H) (a0 : Nat) (a1 : Int32) : Option Int32 :=
  Option.bind (
      lp_X10_onMany_4 F h a0 a1 F 0 0
    : Option (Int32)) (fun x2_55_1 =>
  some x2_55_1)
set_option maxHeartbeats 4000000 in
set_option maxRecDepth 100000 in
theorem ct_X10_onMany {l : Launch} {D : e_D} {B : Heap} {F : Nat} {d : Nat} {h : e_H} {a0 : Nat} {a1 : Int32} {v : Int32} (hd : 4 ≤ d) (e : f_X10_onMany F h a0 a1 = some v) : e_Run l D B d mX10_onMany [.ref a0, .int a1] h (.ok (some (.int v)), h) := by
  refine e_start [some (.ref a0), some (.int a1), none, none] (by decide) rfl rfl rfl (Nat.le_of_ble_eq_true rfl) (fun K hl0 hD0 hB0 hM hd0 hr => ?_)
  subst hl0 hD0 hB0 hd0
  have ho : (k_M K).1.cls = "PegBandsModel" := by rw [hM]; rfl
  have hT : (k_M K).2.2.2.1 = some (.int) := by rw [hM]
  refine (show Sx K cX10_onMany 0 [some (.ref a0), some (.int a1), none, none] [] h (f_X10_onMany F h a0 a1) (fun w => w = v) from ?_) _ e rfl
  clear e
  unfold f_X10_onMany
  refine S_iconst_ 0 (dc_X10_onMany 0 rfl) rfl ?_
  refine S_istore_n (L' := [some (.ref a0), some (.int a1), some (.int 0), none]) (dc_X10_onMany 1 rfl) rfl ?_
  refine S_iconst_ 0 (dc_X10_onMany 2 rfl) rfl ?_
  refine S_istore_n (L' := [some (.ref a0), some (.int a1), some (.int 0), some (.int 0)]) (dc_X10_onMany 3 rfl) rfl ?_
  refine Sx.regK1 (pc2 := 55) (L2 := fun (x2_55_1 : Int32) => [none, none, some (.int x2_55_1), none]) (st2 := fun (x2_55_1 : Int32) => []) (h2 := fun (x2_55_1 : Int32) => h) ?_ (fun Q1 hK1 => ?_)
  · intro x2_55_1
    show Sx K cX10_onMany 55 [none, none, some (.int x2_55_1), none] [] h _ _
    refine S_iload_n (dc_X10_onMany 37 rfl) rfl ?_
    exact S_iret (dc_X10_onMany 38 rfl) hT rfl (fun q => by cases q; exact hr)
  · have hK1 : ∀ (x2_55_1 : Int32), Sx K cX10_onMany 55 [none, none, some (.int x2_55_1), none] [] h (some x2_55_1) Q1 := hK1
    have ih1 : ∀ (n : Nat) (x2_4 : Int32) (x3_4 : Int32), Sx K cX10_onMany 4 [some (.ref a0), some (.int a1), some (.int x2_4), some (.int x3_4)] [] h (lp_X10_onMany_4 F h a0 a1 n x2_4 x3_4) Q1 := by
      intro n
      induction n with
      | zero => intro x2_4 x3_4; exact Sx.none
      | succ n ih1 =>
        intro x2_4 x3_4
        rw [lp_X10_onMany_4.eq_2]
        refine S_iload_n (dc_X10_onMany 4 rfl) rfl ?_
        refine S_aload_n (dc_X10_onMany 5 rfl) rfl ?_
        refine S_iload_n (dc_X10_onMany 6 rfl) rfl ?_
        refine Sx.ask (fun _ i7 => ?_)
        refine S_roI (d := k_d K - 1) (e_callV (b := a0) (As := [.int a1]) (rest := [.int x3_4]) ok_X10_corners rfl (Nat.le_of_ble_eq_true rfl) (dc_X10_onMany 7 rfl) ho q1803 q1805 (show e_cl[8]? = some (RX10, TX10, 51) from rfl) (e_sel.of qs55) (e_is_of i7) rfl (Nat.le_of_ble_eq_true rfl)) (by omega) (fun _ e => ct_X10_corners (by omega) e) (fun x7 e7 => ?_)
        refine S_icmp_ge 55 (dc_X10_onMany 8 rfl) rfl (fun c10 => ?_) (fun c10 => ?_)
        · refine Sx.cut [false, false, true, false] ?_
          exact hK1 x2_4
        · refine S_iload_n (dc_X10_onMany 9 rfl) rfl ?_
          refine S_aload_n (dc_X10_onMany 10 rfl) rfl ?_
          refine S_iload_n (dc_X10_onMany 11 rfl) rfl ?_
          refine S_iload_n (dc_X10_onMany 12 rfl) rfl ?_
          refine S_iconst_ 1 (dc_X10_onMany 13 rfl) rfl ?_
          refine S_iadd (dc_X10_onMany 14 rfl) ?_
          refine S_roI (d := k_d K - 1) (e_callV (b := a0) (As := [.int a1, .int (x3_4 + 1)]) (rest := [.int x2_4]) ok_X10_x rfl (Nat.le_of_ble_eq_true rfl) (dc_X10_onMany 15 rfl) ho q1815 q1817 (show e_cl[8]? = some (RX10, TX10, 51) from rfl) (e_sel.of qs58) (e_is_of i7) rfl (Nat.le_of_ble_eq_true rfl)) (by omega) (fun _ e => ct_X10_x (by omega) e) (fun x19 e19 => ?_)
          refine S_aload_n (dc_X10_onMany 16 rfl) rfl ?_
          refine S_iload_n (dc_X10_onMany 17 rfl) rfl ?_
          refine S_iload_n (dc_X10_onMany 18 rfl) rfl ?_
          refine S_roI (d := k_d K - 1) (e_callV (b := a0) (As := [.int a1, .int x3_4]) (rest := [.int x19, .int x2_4]) ok_X10_x rfl (Nat.le_of_ble_eq_true rfl) (dc_X10_onMany 19 rfl) ho q1815 q1817 (show e_cl[8]? = some (RX10, TX10, 51) from rfl) (e_sel.of qs58) (e_is_of i7) rfl (Nat.le_of_ble_eq_true rfl)) (by omega) (fun _ e => ct_X10_x (by omega) e) (fun x25 e25 => ?_)
          refine S_isub (dc_X10_onMany 20 rfl) ?_
          refine S_aload_n (dc_X10_onMany 21 rfl) rfl ?_
          refine S_iload_n (dc_X10_onMany 22 rfl) rfl ?_
          refine S_iload_n (dc_X10_onMany 23 rfl) rfl ?_
          refine S_iconst_ 1 (dc_X10_onMany 24 rfl) rfl ?_
          refine S_iadd (dc_X10_onMany 25 rfl) ?_
          refine S_roI (d := k_d K - 1) (e_callV (b := a0) (As := [.int a1, .int (x3_4 + 1)]) (rest := [.int (x19 - x25), .int x2_4]) ok_X10_y rfl (Nat.le_of_ble_eq_true rfl) (dc_X10_onMany 26 rfl) ho q1819 q1821 (show e_cl[8]? = some (RX10, TX10, 51) from rfl) (e_sel.of qs59) (e_is_of i7) rfl (Nat.le_of_ble_eq_true rfl)) (by omega) (fun _ e => ct_X10_y (by omega) e) (fun x34 e34 => ?_)
          refine S_aload_n (dc_X10_onMany 27 rfl) rfl ?_
          refine S_iload_n (dc_X10_onMany 28 rfl) rfl ?_
          refine S_iload_n (dc_X10_onMany 29 rfl) rfl ?_
          refine S_roI (d := k_d K - 1) (e_callV (b := a0) (As := [.int a1, .int x3_4]) (rest := [.int x34, .int (x19 - x25), .int x2_4]) ok_X10_y rfl (Nat.le_of_ble_eq_true rfl) (dc_X10_onMany 30 rfl) ho q1819 q1821 (show e_cl[8]? = some (RX10, TX10, 51) from rfl) (e_sel.of qs59) (e_is_of i7) rfl (Nat.le_of_ble_eq_true rfl)) (by omega) (fun _ e => ct_X10_y (by omega) e) (fun x40 e40 => ?_)
          refine S_isub (dc_X10_onMany 31 rfl) ?_
          refine S_roI (d := k_d K - 1) (e_callS (As := [.int (x19 - x25), .int (x34 - x40)]) (rest := [.int x2_4]) ok_X10_common rfl (Nat.le_of_ble_eq_true rfl) (dc_X10_onMany 32 rfl) ho q1830 q1831 rfl (Nat.le_of_ble_eq_true rfl)) (by omega) (fun _ e => ct_X10_common (by omega) e) (fun x44 e44 => ?_)
          refine S_iadd (dc_X10_onMany 33 rfl) ?_
          refine Sx.nameI (fun x48 n48 => ?_)
          refine S_istore_n (L' := [some (.ref a0), some (.int a1), some (.int x48), some (.int x3_4)]) (dc_X10_onMany 34 rfl) rfl ?_
          refine S_iincN 1 (L' := fun x49 => [some (.ref a0), some (.int a1), some (.int x48), some (.int x49)]) (dc_X10_onMany 35 rfl) rfl rfl (fun _ => rfl) (fun x49 n49 => ?_)
          refine S_goto 4 (dc_X10_onMany 36 rfl) rfl ?_
          exact ih1 x48 x49
    exact ih1 F 0 0
abbrev cX10_within : ByteArray := prog_18_method_59_code
def yX10_within : MethodName := ⟨"PegBandsModel", "within", "(I)I"⟩
def tb_X10_within : List (Nat × Instr × Nat) := [(0, .aload_n 0, 1), (1, .iload_n 1, 1), (2, .invokevirtual 298, 3), (5, .aload_n 0, 1), (6, .iload_n 1, 1), (7, .invokevirtual 301, 3), (10, .isub, 1), (11, .iconst 2, 1), (12, .iadd, 1), (13, .iconst 2, 1), (14, .idiv, 1), (15, .ireturn, 1)]
theorem tk_X10_within : ∀ q ∈ tb_X10_within, decode cX10_within q.1 = .ok q.2 := by decide +kernel
theorem dc_X10_within (k : Nat) {pc n : Nat} {i : Instr} (h : tb_X10_within[k]? = some (pc, i, n)) : decode cX10_within pc = .ok (i, n) := tk_X10_within (pc, i, n) (List.mem_of_getElem? h)
abbrev mX10_within : e_M := (yX10_within, cX10_within, 2, some (.int), [])
theorem ok_X10_within : e_mok mX10_within 1 := ⟨q1836, q119, by decide +kernel, fun sig h => by cases h; rfl⟩
def f_X10_within (F : Nat) (h : e_H) (a0 : Nat) (a1 : Int32) : Option Int32 :=
  Option.bind (e_is h a0 8) (fun _ =>
  Option.bind (f_X10_area F h a0 a1) (fun x2 =>
  Option.bind (f_X10_onMany F h a0 a1) (fun x7 =>
  some (((x2 - x7) + 2) / 2))))
set_option maxHeartbeats 4000000 in
set_option maxRecDepth 100000 in
theorem ct_X10_within {l : Launch} {D : e_D} {B : Heap} {F : Nat} {d : Nat} {h : e_H} {a0 : Nat} {a1 : Int32} {v : Int32} (hd : 6 ≤ d) (e : f_X10_within F h a0 a1 = some v) : e_Run l D B d mX10_within [.ref a0, .int a1] h (.ok (some (.int v)), h) := by
  refine e_start [some (.ref a0), some (.int a1)] (by decide) rfl rfl rfl (Nat.le_of_ble_eq_true rfl) (fun K hl0 hD0 hB0 hM hd0 hr => ?_)
  subst hl0 hD0 hB0 hd0
  have ho : (k_M K).1.cls = "PegBandsModel" := by rw [hM]; rfl
  have hT : (k_M K).2.2.2.1 = some (.int) := by rw [hM]
  refine (show Sx K cX10_within 0 [some (.ref a0), some (.int a1)] [] h (f_X10_within F h a0 a1) (fun w => w = v) from ?_) _ e rfl
  clear e
  unfold f_X10_within
  refine S_aload_n (dc_X10_within 0 rfl) rfl ?_
  refine S_iload_n (dc_X10_within 1 rfl) rfl ?_
  refine Sx.ask (fun _ i2 => ?_)
  refine S_roI (d := k_d K - 1) (e_callV (b := a0) (As := [.int a1]) (rest := []) ok_X10_area rfl (Nat.le_of_ble_eq_true rfl) (dc_X10_within 2 rfl) ho q1807 q1809 (show e_cl[8]? = some (RX10, TX10, 51) from rfl) (e_sel.of qs56) (e_is_of i2) rfl (Nat.le_of_ble_eq_true rfl)) (by omega) (fun _ e => ct_X10_area (by omega) e) (fun x2 e2 => ?_)
  refine S_aload_n (dc_X10_within 3 rfl) rfl ?_
  refine S_iload_n (dc_X10_within 4 rfl) rfl ?_
  refine S_roI (d := k_d K - 1) (e_callV (b := a0) (As := [.int a1]) (rest := [.int x2]) ok_X10_onMany rfl (Nat.le_of_ble_eq_true rfl) (dc_X10_within 5 rfl) ho q1826 q1828 (show e_cl[8]? = some (RX10, TX10, 51) from rfl) (e_sel.of qs60) (e_is_of i2) rfl (Nat.le_of_ble_eq_true rfl)) (by omega) (fun _ e => ct_X10_onMany (by omega) e) (fun x7 e7 => ?_)
  refine S_isub (dc_X10_within 6 rfl) ?_
  refine S_iconst_ 2 (dc_X10_within 7 rfl) rfl ?_
  refine S_iadd (dc_X10_within 8 rfl) ?_
  refine S_iconst_ 2 (dc_X10_within 9 rfl) rfl ?_
  refine S_idiv (dc_X10_within 10 rfl) (by decide) ?_
  exact S_iret (dc_X10_within 11 rfl) hT rfl (fun q => by cases q; exact hr)
abbrev cX10_bent : ByteArray := prog_18_method_60_code
def yX10_bent : MethodName := ⟨"PegBandsModel", "bent", "(I)I"⟩
def tb_X10_bent : List (Nat × Instr × Nat) := [(0, .iconst 0, 1), (1, .istore_n 2, 1), (2, .aload_n 0, 1), (3, .iload_n 1, 1), (4, .invokevirtual 292, 3), (7, .invokestatic 189, 3), (10, .istore_n 3, 1), (11, .iconst 0, 1), (12, .istore 4, 2), (14, .iload 4, 2), (16, .aload_n 0, 1), (17, .iload_n 1, 1), (18, .invokevirtual 279, 3), (21, .if_icmp .ge 26, 3), (24, .aload_n 0, 1), (25, .getfield 13, 3), (28, .iload_n 1, 1), (29, .iload 4, 2), (31, .invokestatic 229, 3), (34, .iload_n 3, 1), (35, .if_icmp .eq 6, 3), (38, .iinc 2 1, 3), (41, .iinc 4 1, 3), (44, .goto (-30), 3), (47, .iload_n 2, 1), (48, .ireturn, 1)]
theorem tk_X10_bent : ∀ q ∈ tb_X10_bent, decode cX10_bent q.1 = .ok q.2 := by decide +kernel
theorem dc_X10_bent (k : Nat) {pc n : Nat} {i : Instr} (h : tb_X10_bent[k]? = some (pc, i, n)) : decode cX10_bent pc = .ok (i, n) := tk_X10_bent (pc, i, n) (List.mem_of_getElem? h)
abbrev mX10_bent : e_M := (yX10_bent, cX10_bent, 5, some (.int), [])
theorem ok_X10_bent : e_mok mX10_bent 1 := ⟨q1840, q119, by decide +kernel, fun sig h => by cases h; rfl⟩
def lp_X10_bent_14 (F : Nat) (h : e_H) (a0 : Nat) (a1 : Int32) (x7 : Int32) : Nat → Int32 → Int32 → Option (Int32)
  | 0, _, _ => none
  | n + 1, x2_14, x4_14 =>
    Option.bind (f_X10_corners h a0 a1) (fun x18 =>
    if x18 ≤ x4_14 then
      some x2_14
    else
      Option.bind (e_fA h a0 8 15) (fun x25 =>
      Option.bind (f_X10_turnAt h x25 a1 x4_14) (fun x31 =>
      Option.bind (
          if x31 = x7 then
            some x2_14
          else
            Option.bind (some (x2_14 + 1)) (fun x38 =>
            some x38)
        : Option (Int32)) (fun x2_41_2 =>
      Option.bind (some (x4_14 + 1)) (fun x41 =>
      lp_X10_bent_14 F h a0 a1 x7 n x2_41_2 x41)))))
def f_X10_bent (F : Nat) (h : e_H) (a0 : Nat) (a1 : Int32) : Option Int32 :=
  Option.bind (e_is h a0 8) (fun _ =>
  Option.bind (f_X10_signedArea F h a0 a1) (fun x4 =>
  Option.bind (f_X10_sign x4) (fun x7 =>
  Option.bind (
      lp_X10_bent_14 F h a0 a1 x7 F 0 0
    : Option (Int32)) (fun x2_47_1 =>
  some x2_47_1))))
set_option maxHeartbeats 4000000 in
set_option maxRecDepth 100000 in
theorem ct_X10_bent {l : Launch} {D : e_D} {B : Heap} {F : Nat} {d : Nat} {h : e_H} {a0 : Nat} {a1 : Int32} {v : Int32} (hd : 5 ≤ d) (e : f_X10_bent F h a0 a1 = some v) : e_Run l D B d mX10_bent [.ref a0, .int a1] h (.ok (some (.int v)), h) := by
  refine e_start [some (.ref a0), some (.int a1), none, none, none] (by decide) rfl rfl rfl (Nat.le_of_ble_eq_true rfl) (fun K hl0 hD0 hB0 hM hd0 hr => ?_)
  subst hl0 hD0 hB0 hd0
  have ho : (k_M K).1.cls = "PegBandsModel" := by rw [hM]; rfl
  have hT : (k_M K).2.2.2.1 = some (.int) := by rw [hM]
  refine (show Sx K cX10_bent 0 [some (.ref a0), some (.int a1), none, none, none] [] h (f_X10_bent F h a0 a1) (fun w => w = v) from ?_) _ e rfl
  clear e
  unfold f_X10_bent
  refine S_iconst_ 0 (dc_X10_bent 0 rfl) rfl ?_
  refine S_istore_n (L' := [some (.ref a0), some (.int a1), some (.int 0), none, none]) (dc_X10_bent 1 rfl) rfl ?_
  refine S_aload_n (dc_X10_bent 2 rfl) rfl ?_
  refine S_iload_n (dc_X10_bent 3 rfl) rfl ?_
  refine Sx.ask (fun _ i4 => ?_)
  refine S_roI (d := k_d K - 1) (e_callV (b := a0) (As := [.int a1]) (rest := []) ok_X10_signedArea rfl (Nat.le_of_ble_eq_true rfl) (dc_X10_bent 4 rfl) ho q1811 q1813 (show e_cl[8]? = some (RX10, TX10, 51) from rfl) (e_sel.of qs57) (e_is_of i4) rfl (Nat.le_of_ble_eq_true rfl)) (by omega) (fun _ e => ct_X10_signedArea (by omega) e) (fun x4 e4 => ?_)
  refine S_roI (d := k_d K - 1) (e_callS (As := [.int x4]) (rest := []) ok_X10_sign rfl (Nat.le_of_ble_eq_true rfl) (dc_X10_bent 5 rfl) ho q1753 q1754 rfl (Nat.le_of_ble_eq_true rfl)) (by omega) (fun _ e => ct_X10_sign (by omega) e) (fun x7 e7 => ?_)
  refine S_istore_n (L' := [some (.ref a0), some (.int a1), some (.int 0), some (.int x7), none]) (dc_X10_bent 6 rfl) rfl ?_
  refine S_iconst_ 0 (dc_X10_bent 7 rfl) rfl ?_
  refine S_istore (L' := [some (.ref a0), some (.int a1), some (.int 0), some (.int x7), some (.int 0)]) (dc_X10_bent 8 rfl) rfl ?_
  refine Sx.regK1 (pc2 := 47) (L2 := fun (x2_47_1 : Int32) => [none, none, some (.int x2_47_1), none, none]) (st2 := fun (x2_47_1 : Int32) => []) (h2 := fun (x2_47_1 : Int32) => h) ?_ (fun Q1 hK1 => ?_)
  · intro x2_47_1
    show Sx K cX10_bent 47 [none, none, some (.int x2_47_1), none, none] [] h _ _
    refine S_iload_n (dc_X10_bent 24 rfl) rfl ?_
    exact S_iret (dc_X10_bent 25 rfl) hT rfl (fun q => by cases q; exact hr)
  · have hK1 : ∀ (x2_47_1 : Int32), Sx K cX10_bent 47 [none, none, some (.int x2_47_1), none, none] [] h (some x2_47_1) Q1 := hK1
    have ih1 : ∀ (n : Nat) (x2_14 : Int32) (x4_14 : Int32), Sx K cX10_bent 14 [some (.ref a0), some (.int a1), some (.int x2_14), some (.int x7), some (.int x4_14)] [] h (lp_X10_bent_14 F h a0 a1 x7 n x2_14 x4_14) Q1 := by
      intro n
      induction n with
      | zero => intro x2_14 x4_14; exact Sx.none
      | succ n ih1 =>
        intro x2_14 x4_14
        rw [lp_X10_bent_14.eq_2]
        refine S_iload (dc_X10_bent 9 rfl) rfl ?_
        refine S_aload_n (dc_X10_bent 10 rfl) rfl ?_
        refine S_iload_n (dc_X10_bent 11 rfl) rfl ?_
        refine S_roI (d := k_d K - 1) (e_callV (b := a0) (As := [.int a1]) (rest := [.int x4_14]) ok_X10_corners rfl (Nat.le_of_ble_eq_true rfl) (dc_X10_bent 12 rfl) ho q1803 q1805 (show e_cl[8]? = some (RX10, TX10, 51) from rfl) (e_sel.of qs55) (e_is_of i4) rfl (Nat.le_of_ble_eq_true rfl)) (by omega) (fun _ e => ct_X10_corners (by omega) e) (fun x18 e18 => ?_)
        refine S_icmp_ge 47 (dc_X10_bent 13 rfl) rfl (fun c21 => ?_) (fun c21 => ?_)
        · refine Sx.cut [false, false, true, false, false] ?_
          exact hK1 x2_14
        · refine S_aload_n (dc_X10_bent 14 rfl) rfl ?_
          refine S_getA (dc_X10_bent 15 rfl) ho fl_X10_13_8_15 (fun _ _ => rfl) (fun x25 e25 => ?_)
          refine S_iload_n (dc_X10_bent 16 rfl) rfl ?_
          refine S_iload (dc_X10_bent 17 rfl) rfl ?_
          refine S_roI (d := k_d K - 1) (e_callS (As := [.ref x25, .int a1, .int x4_14]) (rest := []) ok_X10_turnAt rfl (Nat.le_of_ble_eq_true rfl) (dc_X10_bent 18 rfl) ho q1747 q1748 rfl (Nat.le_of_ble_eq_true rfl)) (by omega) (fun _ e => ct_X10_turnAt (by omega) e) (fun x31 e31 => ?_)
          refine S_iload_n (dc_X10_bent 19 rfl) rfl ?_
          refine Sx.regK1 (pc2 := 41) (L2 := fun (x2_41_2 : Int32) => [some (.ref a0), some (.int a1), some (.int x2_41_2), some (.int x7), some (.int x4_14)]) (st2 := fun (x2_41_2 : Int32) => []) (h2 := fun (x2_41_2 : Int32) => h) ?_ (fun Q2 hK2 => ?_)
          · intro x2_41_2
            show Sx K cX10_bent 41 [some (.ref a0), some (.int a1), some (.int x2_41_2), some (.int x7), some (.int x4_14)] [] h _ _
            refine S_iincN 1 (L' := fun x41 => [some (.ref a0), some (.int a1), some (.int x2_41_2), some (.int x7), some (.int x41)]) (dc_X10_bent 22 rfl) rfl rfl (fun _ => rfl) (fun x41 n41 => ?_)
            refine S_goto 14 (dc_X10_bent 23 rfl) rfl ?_
            exact ih1 x2_41_2 x41
          · have hK2 : ∀ (x2_41_2 : Int32), Sx K cX10_bent 41 [some (.ref a0), some (.int a1), some (.int x2_41_2), some (.int x7), some (.int x4_14)] [] h (some x2_41_2) Q2 := hK2
            refine S_icmp_eq 41 (dc_X10_bent 20 rfl) rfl (fun c35 => ?_) (fun c35 => ?_)
            · exact hK2 x2_14
            · refine S_iincN 1 (L' := fun x38 => [some (.ref a0), some (.int a1), some (.int x38), some (.int x7), some (.int x4_14)]) (dc_X10_bent 21 rfl) rfl rfl (fun _ => rfl) (fun x38 n38 => ?_)
              exact hK2 x38
    exact ih1 F 0 0
abbrev cX10_right : ByteArray := prog_18_method_61_code
def yX10_right : MethodName := ⟨"PegBandsModel", "right", "(I)I"⟩
def tb_X10_right : List (Nat × Instr × Nat) := [(0, .iconst 0, 1), (1, .istore_n 2, 1), (2, .iconst 0, 1), (3, .istore_n 3, 1), (4, .iload_n 3, 1), (5, .aload_n 0, 1), (6, .iload_n 1, 1), (7, .invokevirtual 279, 3), (10, .if_icmp .ge 87, 3), (13, .iload_n 3, 1), (14, .aload_n 0, 1), (15, .iload_n 1, 1), (16, .invokevirtual 279, 3), (19, .iadd, 1), (20, .iconst 1, 1), (21, .isub, 1), (22, .istore 4, 2), (24, .aload_n 0, 1), (25, .iload_n 1, 1), (26, .iload 4, 2), (28, .invokevirtual 285, 3), (31, .aload_n 0, 1), (32, .iload_n 1, 1), (33, .iload_n 3, 1), (34, .invokevirtual 285, 3), (37, .isub, 1), (38, .aload_n 0, 1), (39, .iload_n 1, 1), (40, .iload_n 3, 1), (41, .iconst 1, 1), (42, .iadd, 1), (43, .invokevirtual 285, 3), (46, .aload_n 0, 1), (47, .iload_n 1, 1), (48, .iload_n 3, 1), (49, .invokevirtual 285, 3), (52, .isub, 1), (53, .imul, 1), (54, .aload_n 0, 1), (55, .iload_n 1, 1), (56, .iload 4, 2), (58, .invokevirtual 289, 3), (61, .aload_n 0, 1), (62, .iload_n 1, 1), (63, .iload_n 3, 1), (64, .invokevirtual 289, 3), (67, .isub, 1), (68, .aload_n 0, 1), (69, .iload_n 1, 1), (70, .iload_n 3, 1), (71, .iconst 1, 1), (72, .iadd, 1), (73, .invokevirtual 289, 3), (76, .aload_n 0, 1), (77, .iload_n 1, 1), (78, .iload_n 3, 1), (79, .invokevirtual 289, 3), (82, .isub, 1), (83, .imul, 1), (84, .iadd, 1), (85, .ifCond .ne 6, 3), (88, .iinc 2 1, 3), (91, .iinc 3 1, 3), (94, .goto (-90), 3), (97, .iload_n 2, 1), (98, .ireturn, 1)]
theorem tk_X10_right : ∀ q ∈ tb_X10_right, decode cX10_right q.1 = .ok q.2 := by decide +kernel
theorem dc_X10_right (k : Nat) {pc n : Nat} {i : Instr} (h : tb_X10_right[k]? = some (pc, i, n)) : decode cX10_right pc = .ok (i, n) := tk_X10_right (pc, i, n) (List.mem_of_getElem? h)
abbrev mX10_right : e_M := (yX10_right, cX10_right, 5, some (.int), [])
theorem ok_X10_right : e_mok mX10_right 1 := ⟨q1844, q119, by decide +kernel, fun sig h => by cases h; rfl⟩
def lp_X10_right_4 (F : Nat) (h : e_H) (a0 : Nat) (a1 : Int32) : Nat → Int32 → Int32 → Option (Int32)
  | 0, _, _ => none
  | n + 1, x2_4, x3_4 =>
    Option.bind (e_is h a0 8) (fun _ =>
    Option.bind (f_X10_corners h a0 a1) (fun x7 =>
    if x7 ≤ x3_4 then
      some x2_4
    else
      Option.bind (f_X10_corners h a0 a1) (fun x16 =>
      Option.bind (some ((x3_4 + x16) - 1)) (fun x22 =>
      Option.bind (f_X10_x h a0 a1 x22) (fun x28 =>
      Option.bind (f_X10_x h a0 a1 x3_4) (fun x34 =>
      Option.bind (f_X10_x h a0 a1 (x3_4 + 1)) (fun x43 =>
      Option.bind (f_X10_x h a0 a1 x3_4) (fun x49 =>
      Option.bind (f_X10_y h a0 a1 x22) (fun x58 =>
      Option.bind (f_X10_y h a0 a1 x3_4) (fun x64 =>
      Option.bind (f_X10_y h a0 a1 (x3_4 + 1)) (fun x73 =>
      Option.bind (f_X10_y h a0 a1 x3_4) (fun x79 =>
      Option.bind (
          if (((x28 - x34) * (x43 - x49)) + ((x58 - x64) * (x73 - x79))) = 0 then
            Option.bind (some (x2_4 + 1)) (fun x88 =>
            some x88)
          else
            some x2_4
        : Option (Int32)) (fun x2_91_2 =>
      Option.bind (some (x3_4 + 1)) (fun x91 =>
      lp_X10_right_4 F h a0 a1 n x2_91_2 x91))))))))))))))
def f_X10_right (F : Nat) (h : e_H) (a0 : Nat) (a1 : Int32) : Option Int32 :=
  Option.bind (
      lp_X10_right_4 F h a0 a1 F 0 0
    : Option (Int32)) (fun x2_97_1 =>
  some x2_97_1)
set_option maxHeartbeats 4000000 in
set_option maxRecDepth 100000 in
theorem ct_X10_right {l : Launch} {D : e_D} {B : Heap} {F : Nat} {d : Nat} {h : e_H} {a0 : Nat} {a1 : Int32} {v : Int32} (hd : 4 ≤ d) (e : f_X10_right F h a0 a1 = some v) : e_Run l D B d mX10_right [.ref a0, .int a1] h (.ok (some (.int v)), h) := by
  refine e_start [some (.ref a0), some (.int a1), none, none, none] (by decide) rfl rfl rfl (Nat.le_of_ble_eq_true rfl) (fun K hl0 hD0 hB0 hM hd0 hr => ?_)
  subst hl0 hD0 hB0 hd0
  have ho : (k_M K).1.cls = "PegBandsModel" := by rw [hM]; rfl
  have hT : (k_M K).2.2.2.1 = some (.int) := by rw [hM]
  refine (show Sx K cX10_right 0 [some (.ref a0), some (.int a1), none, none, none] [] h (f_X10_right F h a0 a1) (fun w => w = v) from ?_) _ e rfl
  clear e
  unfold f_X10_right
  refine S_iconst_ 0 (dc_X10_right 0 rfl) rfl ?_
  refine S_istore_n (L' := [some (.ref a0), some (.int a1), some (.int 0), none, none]) (dc_X10_right 1 rfl) rfl ?_
  refine S_iconst_ 0 (dc_X10_right 2 rfl) rfl ?_
  refine S_istore_n (L' := [some (.ref a0), some (.int a1), some (.int 0), some (.int 0), none]) (dc_X10_right 3 rfl) rfl ?_
  refine Sx.regK1 (pc2 := 97) (L2 := fun (x2_97_1 : Int32) => [none, none, some (.int x2_97_1), none, none]) (st2 := fun (x2_97_1 : Int32) => []) (h2 := fun (x2_97_1 : Int32) => h) ?_ (fun Q1 hK1 => ?_)
  · intro x2_97_1
    show Sx K cX10_right 97 [none, none, some (.int x2_97_1), none, none] [] h _ _
    refine S_iload_n (dc_X10_right 64 rfl) rfl ?_
    exact S_iret (dc_X10_right 65 rfl) hT rfl (fun q => by cases q; exact hr)
  · have hK1 : ∀ (x2_97_1 : Int32), Sx K cX10_right 97 [none, none, some (.int x2_97_1), none, none] [] h (some x2_97_1) Q1 := hK1
    have ih1 : ∀ (n : Nat) (x2_4 : Int32) (x3_4 : Int32), Sx K cX10_right 4 [some (.ref a0), some (.int a1), some (.int x2_4), some (.int x3_4), none] [] h (lp_X10_right_4 F h a0 a1 n x2_4 x3_4) Q1 := by
      intro n
      induction n with
      | zero => intro x2_4 x3_4; exact Sx.none
      | succ n ih1 =>
        intro x2_4 x3_4
        rw [lp_X10_right_4.eq_2]
        refine S_iload_n (dc_X10_right 4 rfl) rfl ?_
        refine S_aload_n (dc_X10_right 5 rfl) rfl ?_
        refine S_iload_n (dc_X10_right 6 rfl) rfl ?_
        refine Sx.ask (fun _ i7 => ?_)
        refine S_roI (d := k_d K - 1) (e_callV (b := a0) (As := [.int a1]) (rest := [.int x3_4]) ok_X10_corners rfl (Nat.le_of_ble_eq_true rfl) (dc_X10_right 7 rfl) ho q1803 q1805 (show e_cl[8]? = some (RX10, TX10, 51) from rfl) (e_sel.of qs55) (e_is_of i7) rfl (Nat.le_of_ble_eq_true rfl)) (by omega) (fun _ e => ct_X10_corners (by omega) e) (fun x7 e7 => ?_)
        refine S_icmp_ge 97 (dc_X10_right 8 rfl) rfl (fun c10 => ?_) (fun c10 => ?_)
        · refine Sx.cut [false, false, true, false, true] ?_
          exact hK1 x2_4
        · refine S_iload_n (dc_X10_right 9 rfl) rfl ?_
          refine S_aload_n (dc_X10_right 10 rfl) rfl ?_
          refine S_iload_n (dc_X10_right 11 rfl) rfl ?_
          refine S_roI (d := k_d K - 1) (e_callV (b := a0) (As := [.int a1]) (rest := [.int x3_4]) ok_X10_corners rfl (Nat.le_of_ble_eq_true rfl) (dc_X10_right 12 rfl) ho q1803 q1805 (show e_cl[8]? = some (RX10, TX10, 51) from rfl) (e_sel.of qs55) (e_is_of i7) rfl (Nat.le_of_ble_eq_true rfl)) (by omega) (fun _ e => ct_X10_corners (by omega) e) (fun x16 e16 => ?_)
          refine S_iadd (dc_X10_right 13 rfl) ?_
          refine S_iconst_ 1 (dc_X10_right 14 rfl) rfl ?_
          refine S_isub (dc_X10_right 15 rfl) ?_
          refine Sx.nameI (fun x22 n22 => ?_)
          refine S_istore (L' := [some (.ref a0), some (.int a1), some (.int x2_4), some (.int x3_4), some (.int x22)]) (dc_X10_right 16 rfl) rfl ?_
          refine S_aload_n (dc_X10_right 17 rfl) rfl ?_
          refine S_iload_n (dc_X10_right 18 rfl) rfl ?_
          refine S_iload (dc_X10_right 19 rfl) rfl ?_
          refine S_roI (d := k_d K - 1) (e_callV (b := a0) (As := [.int a1, .int x22]) (rest := []) ok_X10_x rfl (Nat.le_of_ble_eq_true rfl) (dc_X10_right 20 rfl) ho q1815 q1817 (show e_cl[8]? = some (RX10, TX10, 51) from rfl) (e_sel.of qs58) (e_is_of i7) rfl (Nat.le_of_ble_eq_true rfl)) (by omega) (fun _ e => ct_X10_x (by omega) e) (fun x28 e28 => ?_)
          refine S_aload_n (dc_X10_right 21 rfl) rfl ?_
          refine S_iload_n (dc_X10_right 22 rfl) rfl ?_
          refine S_iload_n (dc_X10_right 23 rfl) rfl ?_
          refine S_roI (d := k_d K - 1) (e_callV (b := a0) (As := [.int a1, .int x3_4]) (rest := [.int x28]) ok_X10_x rfl (Nat.le_of_ble_eq_true rfl) (dc_X10_right 24 rfl) ho q1815 q1817 (show e_cl[8]? = some (RX10, TX10, 51) from rfl) (e_sel.of qs58) (e_is_of i7) rfl (Nat.le_of_ble_eq_true rfl)) (by omega) (fun _ e => ct_X10_x (by omega) e) (fun x34 e34 => ?_)
          refine S_isub (dc_X10_right 25 rfl) ?_
          refine S_aload_n (dc_X10_right 26 rfl) rfl ?_
          refine S_iload_n (dc_X10_right 27 rfl) rfl ?_
          refine S_iload_n (dc_X10_right 28 rfl) rfl ?_
          refine S_iconst_ 1 (dc_X10_right 29 rfl) rfl ?_
          refine S_iadd (dc_X10_right 30 rfl) ?_
          refine S_roI (d := k_d K - 1) (e_callV (b := a0) (As := [.int a1, .int (x3_4 + 1)]) (rest := [.int (x28 - x34)]) ok_X10_x rfl (Nat.le_of_ble_eq_true rfl) (dc_X10_right 31 rfl) ho q1815 q1817 (show e_cl[8]? = some (RX10, TX10, 51) from rfl) (e_sel.of qs58) (e_is_of i7) rfl (Nat.le_of_ble_eq_true rfl)) (by omega) (fun _ e => ct_X10_x (by omega) e) (fun x43 e43 => ?_)
          refine S_aload_n (dc_X10_right 32 rfl) rfl ?_
          refine S_iload_n (dc_X10_right 33 rfl) rfl ?_
          refine S_iload_n (dc_X10_right 34 rfl) rfl ?_
          refine S_roI (d := k_d K - 1) (e_callV (b := a0) (As := [.int a1, .int x3_4]) (rest := [.int x43, .int (x28 - x34)]) ok_X10_x rfl (Nat.le_of_ble_eq_true rfl) (dc_X10_right 35 rfl) ho q1815 q1817 (show e_cl[8]? = some (RX10, TX10, 51) from rfl) (e_sel.of qs58) (e_is_of i7) rfl (Nat.le_of_ble_eq_true rfl)) (by omega) (fun _ e => ct_X10_x (by omega) e) (fun x49 e49 => ?_)
          refine S_isub (dc_X10_right 36 rfl) ?_
          refine S_imul (dc_X10_right 37 rfl) ?_
          refine S_aload_n (dc_X10_right 38 rfl) rfl ?_
          refine S_iload_n (dc_X10_right 39 rfl) rfl ?_
          refine S_iload (dc_X10_right 40 rfl) rfl ?_
          refine S_roI (d := k_d K - 1) (e_callV (b := a0) (As := [.int a1, .int x22]) (rest := [.int ((x28 - x34) * (x43 - x49))]) ok_X10_y rfl (Nat.le_of_ble_eq_true rfl) (dc_X10_right 41 rfl) ho q1819 q1821 (show e_cl[8]? = some (RX10, TX10, 51) from rfl) (e_sel.of qs59) (e_is_of i7) rfl (Nat.le_of_ble_eq_true rfl)) (by omega) (fun _ e => ct_X10_y (by omega) e) (fun x58 e58 => ?_)
          refine S_aload_n (dc_X10_right 42 rfl) rfl ?_
          refine S_iload_n (dc_X10_right 43 rfl) rfl ?_
          refine S_iload_n (dc_X10_right 44 rfl) rfl ?_
          refine S_roI (d := k_d K - 1) (e_callV (b := a0) (As := [.int a1, .int x3_4]) (rest := [.int x58, .int ((x28 - x34) * (x43 - x49))]) ok_X10_y rfl (Nat.le_of_ble_eq_true rfl) (dc_X10_right 45 rfl) ho q1819 q1821 (show e_cl[8]? = some (RX10, TX10, 51) from rfl) (e_sel.of qs59) (e_is_of i7) rfl (Nat.le_of_ble_eq_true rfl)) (by omega) (fun _ e => ct_X10_y (by omega) e) (fun x64 e64 => ?_)
          refine S_isub (dc_X10_right 46 rfl) ?_
          refine S_aload_n (dc_X10_right 47 rfl) rfl ?_
          refine S_iload_n (dc_X10_right 48 rfl) rfl ?_
          refine S_iload_n (dc_X10_right 49 rfl) rfl ?_
          refine S_iconst_ 1 (dc_X10_right 50 rfl) rfl ?_
          refine S_iadd (dc_X10_right 51 rfl) ?_
          refine S_roI (d := k_d K - 1) (e_callV (b := a0) (As := [.int a1, .int (x3_4 + 1)]) (rest := [.int (x58 - x64), .int ((x28 - x34) * (x43 - x49))]) ok_X10_y rfl (Nat.le_of_ble_eq_true rfl) (dc_X10_right 52 rfl) ho q1819 q1821 (show e_cl[8]? = some (RX10, TX10, 51) from rfl) (e_sel.of qs59) (e_is_of i7) rfl (Nat.le_of_ble_eq_true rfl)) (by omega) (fun _ e => ct_X10_y (by omega) e) (fun x73 e73 => ?_)
          refine S_aload_n (dc_X10_right 53 rfl) rfl ?_
          refine S_iload_n (dc_X10_right 54 rfl) rfl ?_
          refine S_iload_n (dc_X10_right 55 rfl) rfl ?_
          refine S_roI (d := k_d K - 1) (e_callV (b := a0) (As := [.int a1, .int x3_4]) (rest := [.int x73, .int (x58 - x64), .int ((x28 - x34) * (x43 - x49))]) ok_X10_y rfl (Nat.le_of_ble_eq_true rfl) (dc_X10_right 56 rfl) ho q1819 q1821 (show e_cl[8]? = some (RX10, TX10, 51) from rfl) (e_sel.of qs59) (e_is_of i7) rfl (Nat.le_of_ble_eq_true rfl)) (by omega) (fun _ e => ct_X10_y (by omega) e) (fun x79 e79 => ?_)
          refine S_isub (dc_X10_right 57 rfl) ?_
          refine S_imul (dc_X10_right 58 rfl) ?_
          refine S_iadd (dc_X10_right 59 rfl) ?_
          refine Sx.regK1 (pc2 := 91) (L2 := fun (x2_91_2 : Int32) => [some (.ref a0), some (.int a1), some (.int x2_91_2), some (.int x3_4), none]) (st2 := fun (x2_91_2 : Int32) => []) (h2 := fun (x2_91_2 : Int32) => h) ?_ (fun Q2 hK2 => ?_)
          · intro x2_91_2
            show Sx K cX10_right 91 [some (.ref a0), some (.int a1), some (.int x2_91_2), some (.int x3_4), none] [] h _ _
            refine S_iincN 1 (L' := fun x91 => [some (.ref a0), some (.int a1), some (.int x2_91_2), some (.int x91), none]) (dc_X10_right 62 rfl) rfl rfl (fun _ => rfl) (fun x91 n91 => ?_)
            refine S_goto 4 (dc_X10_right 63 rfl) rfl ?_
            exact ih1 x2_91_2 x91
          · have hK2 : ∀ (x2_91_2 : Int32), Sx K cX10_right 91 [some (.ref a0), some (.int a1), some (.int x2_91_2), some (.int x3_4), none] [] h (some x2_91_2) Q2 := hK2
            refine S_if_ne 91 (dc_X10_right 60 rfl) rfl (fun c85 => ?_) (fun c85 => ?_)
            · refine Sx.cut [true, true, true, true, false] ?_
              exact hK2 x2_4
            · refine S_iincN 1 (L' := fun x88 => [some (.ref a0), some (.int a1), some (.int x88), some (.int x3_4), some (.int x22)]) (dc_X10_right 61 rfl) rfl rfl (fun _ => rfl) (fun x88 n88 => ?_)
              refine Sx.cut [true, true, true, true, false] ?_
              exact hK2 x88
    exact ih1 F 0 0
abbrev cX10_crossings : ByteArray := prog_18_method_62_code
def yX10_crossings : MethodName := ⟨"PegBandsModel", "crossings", "(III)I"⟩
def tb_X10_crossings : List (Nat × Instr × Nat) := [(0, .iconst 0, 1), (1, .istore 4, 2), (3, .iconst 0, 1), (4, .istore 5, 2), (6, .iload 5, 2), (8, .aload_n 0, 1), (9, .iload_n 1, 1), (10, .invokevirtual 279, 3), (13, .if_icmp .ge 48, 3), (16, .iconst 0, 1), (17, .istore 6, 2), (19, .iload 6, 2), (21, .aload_n 0, 1), (22, .iload_n 2, 1), (23, .invokevirtual 279, 3), (26, .if_icmp .ge 29, 3), (29, .aload_n 0, 1), (30, .getfield 13, 3), (33, .iload_n 1, 1), (34, .iload 5, 2), (36, .iload_n 2, 1), (37, .iload 6, 2), (39, .invokestatic 222, 3), (42, .iload_n 3, 1), (43, .if_icmp .ne 6, 3), (46, .iinc 4 1, 3), (49, .iinc 6 1, 3), (52, .goto (-33), 3), (55, .iinc 5 1, 3), (58, .goto (-52), 3), (61, .iload 4, 2), (63, .ireturn, 1)]
theorem tk_X10_crossings : ∀ q ∈ tb_X10_crossings, decode cX10_crossings q.1 = .ok q.2 := by decide +kernel
theorem dc_X10_crossings (k : Nat) {pc n : Nat} {i : Instr} (h : tb_X10_crossings[k]? = some (pc, i, n)) : decode cX10_crossings pc = .ok (i, n) := tk_X10_crossings (pc, i, n) (List.mem_of_getElem? h)
abbrev mX10_crossings : e_M := (yX10_crossings, cX10_crossings, 7, some (.int), [])
theorem ok_X10_crossings : e_mok mX10_crossings 3 := ⟨q1848, q119, by decide +kernel, fun sig h => by cases h; rfl⟩
def lp_X10_crossings_19 (F : Nat) (h : e_H) (a0 : Nat) (a1 : Int32) (a2 : Int32) (a3 : Int32) (x5_6 : Int32) : Nat → Int32 → Int32 → Option (Int32)
  | 0, _, _ => none
  | n + 1, x4_19, x6_19 =>
    Option.bind (f_X10_corners h a0 a2) (fun x23 =>
    if x23 ≤ x6_19 then
      some x4_19
    else
      Option.bind (e_fA h a0 8 15) (fun x30 =>
      Option.bind (f_X10_meetSides h x30 a1 x5_6 a2 x6_19) (fun x39 =>
      Option.bind (
          if x39 = a3 then
            Option.bind (some (x4_19 + 1)) (fun x46 =>
            some x46)
          else
            some x4_19
        : Option (Int32)) (fun x4_49_3 =>
      Option.bind (some (x6_19 + 1)) (fun x49 =>
      lp_X10_crossings_19 F h a0 a1 a2 a3 x5_6 n x4_49_3 x49)))))
def lp_X10_crossings_6 (F : Nat) (h : e_H) (a0 : Nat) (a1 : Int32) (a2 : Int32) (a3 : Int32) : Nat → Int32 → Int32 → Option (Int32)
  | 0, _, _ => none
  | n + 1, x4_6, x5_6 =>
    Option.bind (e_is h a0 8) (fun _ =>
    Option.bind (f_X10_corners h a0 a1) (fun x10 =>
    if x10 ≤ x5_6 then
      some x4_6
    else
      Option.bind (
          lp_X10_crossings_19 F h a0 a1 a2 a3 x5_6 F x4_6 0
        : Option (Int32)) (fun x4_55_2 =>
      Option.bind (some (x5_6 + 1)) (fun x55 =>
      lp_X10_crossings_6 F h a0 a1 a2 a3 n x4_55_2 x55))))
def f_X10_crossings (F : Nat) (h : e_H) (a0 : Nat) (a1 : Int32) (a2 : Int32) (a3 : Int32) : Option Int32 :=
  Option.bind (
      lp_X10_crossings_6 F h a0 a1 a2 a3 F 0 0
    : Option (Int32)) (fun x4_61_1 =>
  some x4_61_1)
set_option maxHeartbeats 4000000 in
set_option maxRecDepth 100000 in
theorem ct_X10_crossings {l : Launch} {D : e_D} {B : Heap} {F : Nat} {d : Nat} {h : e_H} {a0 : Nat} {a1 : Int32} {a2 : Int32} {a3 : Int32} {v : Int32} (hd : 6 ≤ d) (e : f_X10_crossings F h a0 a1 a2 a3 = some v) : e_Run l D B d mX10_crossings [.ref a0, .int a1, .int a2, .int a3] h (.ok (some (.int v)), h) := by
  refine e_start [some (.ref a0), some (.int a1), some (.int a2), some (.int a3), none, none, none] (by decide) rfl rfl rfl (Nat.le_of_ble_eq_true rfl) (fun K hl0 hD0 hB0 hM hd0 hr => ?_)
  subst hl0 hD0 hB0 hd0
  have ho : (k_M K).1.cls = "PegBandsModel" := by rw [hM]; rfl
  have hT : (k_M K).2.2.2.1 = some (.int) := by rw [hM]
  refine (show Sx K cX10_crossings 0 [some (.ref a0), some (.int a1), some (.int a2), some (.int a3), none, none, none] [] h (f_X10_crossings F h a0 a1 a2 a3) (fun w => w = v) from ?_) _ e rfl
  clear e
  unfold f_X10_crossings
  refine S_iconst_ 0 (dc_X10_crossings 0 rfl) rfl ?_
  refine S_istore (L' := [some (.ref a0), some (.int a1), some (.int a2), some (.int a3), some (.int 0), none, none]) (dc_X10_crossings 1 rfl) rfl ?_
  refine S_iconst_ 0 (dc_X10_crossings 2 rfl) rfl ?_
  refine S_istore (L' := [some (.ref a0), some (.int a1), some (.int a2), some (.int a3), some (.int 0), some (.int 0), none]) (dc_X10_crossings 3 rfl) rfl ?_
  refine Sx.regK1 (pc2 := 61) (L2 := fun (x4_61_1 : Int32) => [none, none, none, none, some (.int x4_61_1), none, none]) (st2 := fun (x4_61_1 : Int32) => []) (h2 := fun (x4_61_1 : Int32) => h) ?_ (fun Q1 hK1 => ?_)
  · intro x4_61_1
    show Sx K cX10_crossings 61 [none, none, none, none, some (.int x4_61_1), none, none] [] h _ _
    refine S_iload (dc_X10_crossings 30 rfl) rfl ?_
    exact S_iret (dc_X10_crossings 31 rfl) hT rfl (fun q => by cases q; exact hr)
  · have hK1 : ∀ (x4_61_1 : Int32), Sx K cX10_crossings 61 [none, none, none, none, some (.int x4_61_1), none, none] [] h (some x4_61_1) Q1 := hK1
    have ih1 : ∀ (n : Nat) (x4_6 : Int32) (x5_6 : Int32), Sx K cX10_crossings 6 [some (.ref a0), some (.int a1), some (.int a2), some (.int a3), some (.int x4_6), some (.int x5_6), none] [] h (lp_X10_crossings_6 F h a0 a1 a2 a3 n x4_6 x5_6) Q1 := by
      intro n
      induction n with
      | zero => intro x4_6 x5_6; exact Sx.none
      | succ n ih1 =>
        intro x4_6 x5_6
        rw [lp_X10_crossings_6.eq_2]
        refine S_iload (dc_X10_crossings 4 rfl) rfl ?_
        refine S_aload_n (dc_X10_crossings 5 rfl) rfl ?_
        refine S_iload_n (dc_X10_crossings 6 rfl) rfl ?_
        refine Sx.ask (fun _ i10 => ?_)
        refine S_roI (d := k_d K - 1) (e_callV (b := a0) (As := [.int a1]) (rest := [.int x5_6]) ok_X10_corners rfl (Nat.le_of_ble_eq_true rfl) (dc_X10_crossings 7 rfl) ho q1803 q1805 (show e_cl[8]? = some (RX10, TX10, 51) from rfl) (e_sel.of qs55) (e_is_of i10) rfl (Nat.le_of_ble_eq_true rfl)) (by omega) (fun _ e => ct_X10_corners (by omega) e) (fun x10 e10 => ?_)
        refine S_icmp_ge 61 (dc_X10_crossings 8 rfl) rfl (fun c13 => ?_) (fun c13 => ?_)
        · refine Sx.cut [false, false, false, false, true, false, true] ?_
          exact hK1 x4_6
        · refine S_iconst_ 0 (dc_X10_crossings 9 rfl) rfl ?_
          refine S_istore (L' := [some (.ref a0), some (.int a1), some (.int a2), some (.int a3), some (.int x4_6), some (.int x5_6), some (.int 0)]) (dc_X10_crossings 10 rfl) rfl ?_
          refine Sx.regK1 (pc2 := 55) (L2 := fun (x4_55_2 : Int32) => [some (.ref a0), some (.int a1), some (.int a2), some (.int a3), some (.int x4_55_2), some (.int x5_6), none]) (st2 := fun (x4_55_2 : Int32) => []) (h2 := fun (x4_55_2 : Int32) => h) ?_ (fun Q2 hK2 => ?_)
          · intro x4_55_2
            show Sx K cX10_crossings 55 [some (.ref a0), some (.int a1), some (.int a2), some (.int a3), some (.int x4_55_2), some (.int x5_6), none] [] h _ _
            refine S_iincN 1 (L' := fun x55 => [some (.ref a0), some (.int a1), some (.int a2), some (.int a3), some (.int x4_55_2), some (.int x55), none]) (dc_X10_crossings 28 rfl) rfl rfl (fun _ => rfl) (fun x55 n55 => ?_)
            refine S_goto 6 (dc_X10_crossings 29 rfl) rfl ?_
            exact ih1 x4_55_2 x55
          · have hK2 : ∀ (x4_55_2 : Int32), Sx K cX10_crossings 55 [some (.ref a0), some (.int a1), some (.int a2), some (.int a3), some (.int x4_55_2), some (.int x5_6), none] [] h (some x4_55_2) Q2 := hK2
            have ih2 : ∀ (n : Nat) (x4_19 : Int32) (x6_19 : Int32), Sx K cX10_crossings 19 [some (.ref a0), some (.int a1), some (.int a2), some (.int a3), some (.int x4_19), some (.int x5_6), some (.int x6_19)] [] h (lp_X10_crossings_19 F h a0 a1 a2 a3 x5_6 n x4_19 x6_19) Q2 := by
              intro n
              induction n with
              | zero => intro x4_19 x6_19; exact Sx.none
              | succ n ih2 =>
                intro x4_19 x6_19
                rw [lp_X10_crossings_19.eq_2]
                refine S_iload (dc_X10_crossings 11 rfl) rfl ?_
                refine S_aload_n (dc_X10_crossings 12 rfl) rfl ?_
                refine S_iload_n (dc_X10_crossings 13 rfl) rfl ?_
                refine S_roI (d := k_d K - 1) (e_callV (b := a0) (As := [.int a2]) (rest := [.int x6_19]) ok_X10_corners rfl (Nat.le_of_ble_eq_true rfl) (dc_X10_crossings 14 rfl) ho q1803 q1805 (show e_cl[8]? = some (RX10, TX10, 51) from rfl) (e_sel.of qs55) (e_is_of i10) rfl (Nat.le_of_ble_eq_true rfl)) (by omega) (fun _ e => ct_X10_corners (by omega) e) (fun x23 e23 => ?_)
                refine S_icmp_ge 55 (dc_X10_crossings 15 rfl) rfl (fun c26 => ?_) (fun c26 => ?_)
                · refine Sx.cut [true, true, true, true, true, true, false] ?_
                  exact hK2 x4_19
                · refine S_aload_n (dc_X10_crossings 16 rfl) rfl ?_
                  refine S_getA (dc_X10_crossings 17 rfl) ho fl_X10_13_8_15 (fun _ _ => rfl) (fun x30 e30 => ?_)
                  refine S_iload_n (dc_X10_crossings 18 rfl) rfl ?_
                  refine S_iload (dc_X10_crossings 19 rfl) rfl ?_
                  refine S_iload_n (dc_X10_crossings 20 rfl) rfl ?_
                  refine S_iload (dc_X10_crossings 21 rfl) rfl ?_
                  refine S_roI (d := k_d K - 1) (e_callS (As := [.ref x30, .int a1, .int x5_6, .int a2, .int x6_19]) (rest := []) ok_X10_meetSides rfl (Nat.le_of_ble_eq_true rfl) (dc_X10_crossings 22 rfl) ho q1756 q1757 rfl (Nat.le_of_ble_eq_true rfl)) (by omega) (fun _ e => ct_X10_meetSides (by omega) e) (fun x39 e39 => ?_)
                  refine S_iload_n (dc_X10_crossings 23 rfl) rfl ?_
                  refine Sx.regK1 (pc2 := 49) (L2 := fun (x4_49_3 : Int32) => [some (.ref a0), some (.int a1), some (.int a2), some (.int a3), some (.int x4_49_3), some (.int x5_6), some (.int x6_19)]) (st2 := fun (x4_49_3 : Int32) => []) (h2 := fun (x4_49_3 : Int32) => h) ?_ (fun Q3 hK3 => ?_)
                  · intro x4_49_3
                    show Sx K cX10_crossings 49 [some (.ref a0), some (.int a1), some (.int a2), some (.int a3), some (.int x4_49_3), some (.int x5_6), some (.int x6_19)] [] h _ _
                    refine S_iincN 1 (L' := fun x49 => [some (.ref a0), some (.int a1), some (.int a2), some (.int a3), some (.int x4_49_3), some (.int x5_6), some (.int x49)]) (dc_X10_crossings 26 rfl) rfl rfl (fun _ => rfl) (fun x49 n49 => ?_)
                    refine S_goto 19 (dc_X10_crossings 27 rfl) rfl ?_
                    exact ih2 x4_49_3 x49
                  · have hK3 : ∀ (x4_49_3 : Int32), Sx K cX10_crossings 49 [some (.ref a0), some (.int a1), some (.int a2), some (.int a3), some (.int x4_49_3), some (.int x5_6), some (.int x6_19)] [] h (some x4_49_3) Q3 := hK3
                    refine S_icmp_ne 49 (dc_X10_crossings 24 rfl) rfl (fun c43 => ?_) (fun c43 => ?_)
                    · exact hK3 x4_19
                    · refine S_iincN 1 (L' := fun x46 => [some (.ref a0), some (.int a1), some (.int a2), some (.int a3), some (.int x46), some (.int x5_6), some (.int x6_19)]) (dc_X10_crossings 25 rfl) rfl rfl (fun _ => rfl) (fun x46 n46 => ?_)
                      exact hK3 x46
            exact ih2 F x4_6 0
    exact ih1 F 0 0
abbrev cX10_band : ByteArray := prog_18_method_63_code
def yX10_band : MethodName := ⟨"PegBandsModel", "band", "(II)I"⟩
def tb_X10_band : List (Nat × Instr × Nat) := [(0, .aload_n 0, 1), (1, .iload_n 1, 1), (2, .invokevirtual 304, 3), (5, .ifCond .eq 13, 3), (8, .iload_n 2, 1), (9, .iconst 0, 1), (10, .bipush 6, 2), (12, .invokestatic 168, 3), (15, .ifCond .ne 8, 3), (18, .aload_n 0, 1), (19, .invokevirtual 307, 3), (22, .ireturn, 1), (23, .aload_n 0, 1), (24, .iconst 0, 1), (25, .putfield 94, 3), (28, .iload_n 2, 1), (29, .tableswitch 75 0 5 #[39, 45, 51, 57, 63, 69], 39), (68, .aload_n 0, 1), (69, .iload_n 1, 1), (70, .invokevirtual 279, 3), (73, .ireturn, 1), (74, .aload_n 0, 1), (75, .iload_n 1, 1), (76, .invokevirtual 298, 3), (79, .ireturn, 1), (80, .aload_n 0, 1), (81, .iload_n 1, 1), (82, .invokevirtual 301, 3), (85, .ireturn, 1), (86, .aload_n 0, 1), (87, .iload_n 1, 1), (88, .invokevirtual 310, 3), (91, .ireturn, 1), (92, .aload_n 0, 1), (93, .iload_n 1, 1), (94, .invokevirtual 313, 3), (97, .ireturn, 1), (98, .aload_n 0, 1), (99, .iload_n 1, 1), (100, .invokevirtual 316, 3), (103, .ireturn, 1), (104, .iconst 0, 1), (105, .istore_n 3, 1), (106, .iconst 0, 1), (107, .istore 4, 2), (109, .iload 4, 2), (111, .aload_n 0, 1), (112, .invokevirtual 276, 3), (115, .if_icmp .ge 26, 3), (118, .iload 4, 2), (120, .iload_n 1, 1), (121, .if_icmp .eq 14, 3), (124, .iload_n 3, 1), (125, .aload_n 0, 1), (126, .iload_n 1, 1), (127, .iload 4, 2), (129, .iconst 1, 1), (130, .invokevirtual 319, 3), (133, .iadd, 1), (134, .istore_n 3, 1), (135, .iinc 4 1, 3), (138, .goto (-29), 3), (141, .iload_n 3, 1), (142, .ireturn, 1)]
theorem tk_X10_band : ∀ q ∈ tb_X10_band, decode cX10_band q.1 = .ok q.2 := by decide +kernel
theorem dc_X10_band (k : Nat) {pc n : Nat} {i : Instr} (h : tb_X10_band[k]? = some (pc, i, n)) : decode cX10_band pc = .ok (i, n) := tk_X10_band (pc, i, n) (List.mem_of_getElem? h)
abbrev mX10_band : e_M := (yX10_band, cX10_band, 5, some (.int), [])
theorem ok_X10_band : e_mok mX10_band 2 := ⟨q1790, q119, by decide +kernel, fun sig h => by cases h; rfl⟩
def lp_X10_band_109 (F : Nat) (h25 : e_H) (a0 : Nat) (a1 : Int32) : Nat → Int32 → Int32 → Option (Int32)
  | 0, _, _ => none
  | n + 1, x3_109, x4_109 =>
    Option.bind (e_is h25 a0 8) (fun _ =>
    Option.bind (f_X10_bands h25 a0) (fun x112 =>
    if x112 ≤ x4_109 then
      some x3_109
    else
      Option.bind (
          if x4_109 = a1 then
            some x3_109
          else
            Option.bind (f_X10_crossings F h25 a0 a1 x4_109 1) (fun x130 =>
            Option.bind (some (x3_109 + x130)) (fun x134 =>
            some x134))
        : Option (Int32)) (fun x3_135_3 =>
      Option.bind (some (x4_109 + 1)) (fun x135 =>
      lp_X10_band_109 F h25 a0 a1 n x3_135_3 x135))))
def f_X10_band (F : Nat) (h : e_H) (a0 : Nat) (a1 : Int32) (a2 : Int32) : Option (Int32 × e_H) :=
  Option.bind (e_is h a0 8) (fun _ =>
  Option.bind (f_X10_isBand h a0 a1) (fun x2 =>
  e_bE (
      if x2 = 0 then
        some (.ok h)
      else
        Option.bind (f_X10_isIn a2 0 6) (fun x12 =>
        if x12 = 0 then
          some (.ok h)
        else
          Option.bind (e_gI h a0 8 0 0) (fun h25 =>
          if a2 = 0 then
            Option.bind (e_is h25 a0 8) (fun _ =>
            Option.bind (f_X10_corners h25 a0 a1) (fun x70 =>
            some (.error (x70, h25))))
          else
          if a2 = 1 then
            Option.bind (e_is h25 a0 8) (fun _ =>
            Option.bind (f_X10_area F h25 a0 a1) (fun x76 =>
            some (.error (x76, h25))))
          else
          if a2 = 2 then
            Option.bind (e_is h25 a0 8) (fun _ =>
            Option.bind (f_X10_onMany F h25 a0 a1) (fun x82 =>
            some (.error (x82, h25))))
          else
          if a2 = 3 then
            Option.bind (e_is h25 a0 8) (fun _ =>
            Option.bind (f_X10_within F h25 a0 a1) (fun x88 =>
            some (.error (x88, h25))))
          else
          if a2 = 4 then
            Option.bind (e_is h25 a0 8) (fun _ =>
            Option.bind (f_X10_bent F h25 a0 a1) (fun x94 =>
            some (.error (x94, h25))))
          else
          if a2 = 5 then
            Option.bind (e_is h25 a0 8) (fun _ =>
            Option.bind (f_X10_right F h25 a0 a1) (fun x100 =>
            some (.error (x100, h25))))
          else
            Option.bind (
                lp_X10_band_109 F h25 a0 a1 F 0 0
              : Option (Int32)) (fun x3_141_2 =>
            some (.error (x3_141_2, h25)))))
    : Option (Except (Int32 × e_H) e_H)) (fun h18_1 =>
  Option.bind (e_is h18_1 a0 8) (fun _ =>
  e_b2 (f_X10_refuse h18_1 a0) (fun x19 h19 =>
  some (x19, h19))))))
set_option maxHeartbeats 4000000 in
set_option maxRecDepth 100000 in
theorem ct_X10_band {l : Launch} {D : e_D} {B : Heap} {F : Nat} {d : Nat} {h : e_H} {a0 : Nat} {a1 : Int32} {a2 : Int32} {v : Int32} {h1 : e_H} (hd : 7 ≤ d) (e : f_X10_band F h a0 a1 a2 = some (v, h1)) : e_Run l D B d mX10_band [.ref a0, .int a1, .int a2] h (.ok (some (.int v)), h1) := by
  refine e_start [some (.ref a0), some (.int a1), some (.int a2), none, none] (by decide) rfl rfl rfl (Nat.le_of_ble_eq_true rfl) (fun K hl0 hD0 hB0 hM hd0 hr => ?_)
  subst hl0 hD0 hB0 hd0
  have ho : (k_M K).1.cls = "PegBandsModel" := by rw [hM]; rfl
  have hT : (k_M K).2.2.2.1 = some (.int) := by rw [hM]
  refine (show Sx K cX10_band 0 [some (.ref a0), some (.int a1), some (.int a2), none, none] [] h (f_X10_band F h a0 a1 a2) (fun w => w = (v, h1)) from ?_) _ e rfl
  clear e
  unfold f_X10_band
  refine S_aload_n (dc_X10_band 0 rfl) rfl ?_
  refine S_iload_n (dc_X10_band 1 rfl) rfl ?_
  refine Sx.ask (fun _ i2 => ?_)
  refine S_roI (d := k_d K - 1) (e_callV (b := a0) (As := [.int a1]) (rest := []) ok_X10_isBand rfl (Nat.le_of_ble_eq_true rfl) (dc_X10_band 2 rfl) ho q1791 q1793 (show e_cl[8]? = some (RX10, TX10, 51) from rfl) (e_sel.of qs52) (e_is_of i2) rfl (Nat.le_of_ble_eq_true rfl)) (by omega) (fun _ e => ct_X10_isBand (by omega) e) (fun x2 e2 => ?_)
  refine Sx.regKE1 (pc2 := 18) (L2 := fun (h18_1 : e_H) => [some (.ref a0), none, none, none, none]) (st2 := fun (h18_1 : e_H) => []) (h2 := fun (h18_1 : e_H) => h18_1) ?_ (fun Q1 hK1 hE1 => ?_)
  · intro h18_1
    show Sx K cX10_band 18 [some (.ref a0), none, none, none, none] [] h18_1 _ _
    refine S_aload_n (dc_X10_band 9 rfl) rfl ?_
    refine Sx.ask (fun _ i19 => ?_)
    refine S_rwI (d := k_d K - 1) (e_callV (b := a0) (As := []) (rest := []) ok_X10_refuse rfl (Nat.le_of_ble_eq_true rfl) (dc_X10_band 10 rfl) ho q1799 q1801 (show e_cl[8]? = some (RX10, TX10, 51) from rfl) (e_sel.of qs54) (e_is_of i19) rfl (Nat.le_of_ble_eq_true rfl)) (by omega) (fun _ _ e => ct_X10_refuse (by omega) e) (fun x19 h19 e19 => ?_)
    exact S_iret (dc_X10_band 11 rfl) hT rfl (e_rqI hr)
  · have hK1 : ∀ (h18_1 : e_H), Sx K cX10_band 18 [some (.ref a0), none, none, none, none] [] h18_1 (some (.ok h18_1)) Q1 := hK1
    refine S_if_eq 18 (dc_X10_band 3 rfl) rfl (fun c5 => ?_) (fun c5 => ?_)
    · refine Sx.cut [true, false, false, true, true] ?_
      exact hK1 h
    · refine S_iload_n (dc_X10_band 4 rfl) rfl ?_
      refine S_iconst_ 0 (dc_X10_band 5 rfl) rfl ?_
      refine S_bipush_ 6 (dc_X10_band 6 rfl) rfl ?_
      refine S_roI (d := k_d K - 1) (e_callS (As := [.int a2, .int 0, .int 6]) (rest := []) ok_X10_isIn rfl (Nat.le_of_ble_eq_true rfl) (dc_X10_band 7 rfl) ho q1699 q1700 rfl (Nat.le_of_ble_eq_true rfl)) (by omega) (fun _ e => ct_X10_isIn (by omega) e) (fun x12 e12 => ?_)
      refine S_if_ne 23 (dc_X10_band 8 rfl) rfl (fun c15 => ?_) (fun c15 => ?_)
      · refine S_aload_n (dc_X10_band 12 rfl) rfl ?_
        refine S_iconst_ 0 (dc_X10_band 13 rfl) rfl ?_
        refine S_putI (dc_X10_band 14 rfl) ho fl_X10_94_8_0 (fun _ _ => rfl) (Or.inl rfl) rfl rfl (fun h25 e25 => ?_)
        refine S_iload_n (dc_X10_band 15 rfl) rfl ?_
        refine Sx.case (fun c29_0 => ?_) (fun c29_0 => ?_)
        · refine S_tsIn 68 c29_0 (dc_X10_band 16 rfl) (by decide) (by decide) rfl rfl ?_
          refine S_aload_n (dc_X10_band 17 rfl) rfl ?_
          refine S_iload_n (dc_X10_band 18 rfl) rfl ?_
          refine Sx.ask (fun _ i70 => ?_)
          refine S_roI (d := k_d K - 1) (e_callV (b := a0) (As := [.int a1]) (rest := []) ok_X10_corners rfl (Nat.le_of_ble_eq_true rfl) (dc_X10_band 19 rfl) ho q1803 q1805 (show e_cl[8]? = some (RX10, TX10, 51) from rfl) (e_sel.of qs55) (e_is_of i70) rfl (Nat.le_of_ble_eq_true rfl)) (by omega) (fun _ e => ct_X10_corners (by omega) e) (fun x70 e70 => ?_)
          refine Sx.err hE1 ?_
          exact S_iret (dc_X10_band 20 rfl) hT rfl (e_rqI hr)
        refine Sx.case (fun c29_1 => ?_) (fun c29_1 => ?_)
        · refine S_tsIn 74 c29_1 (dc_X10_band 16 rfl) (by decide) (by decide) rfl rfl ?_
          refine S_aload_n (dc_X10_band 21 rfl) rfl ?_
          refine S_iload_n (dc_X10_band 22 rfl) rfl ?_
          refine Sx.ask (fun _ i76 => ?_)
          refine S_roI (d := k_d K - 1) (e_callV (b := a0) (As := [.int a1]) (rest := []) ok_X10_area rfl (Nat.le_of_ble_eq_true rfl) (dc_X10_band 23 rfl) ho q1807 q1809 (show e_cl[8]? = some (RX10, TX10, 51) from rfl) (e_sel.of qs56) (e_is_of i76) rfl (Nat.le_of_ble_eq_true rfl)) (by omega) (fun _ e => ct_X10_area (by omega) e) (fun x76 e76 => ?_)
          refine Sx.err hE1 ?_
          exact S_iret (dc_X10_band 24 rfl) hT rfl (e_rqI hr)
        refine Sx.case (fun c29_2 => ?_) (fun c29_2 => ?_)
        · refine S_tsIn 80 c29_2 (dc_X10_band 16 rfl) (by decide) (by decide) rfl rfl ?_
          refine S_aload_n (dc_X10_band 25 rfl) rfl ?_
          refine S_iload_n (dc_X10_band 26 rfl) rfl ?_
          refine Sx.ask (fun _ i82 => ?_)
          refine S_roI (d := k_d K - 1) (e_callV (b := a0) (As := [.int a1]) (rest := []) ok_X10_onMany rfl (Nat.le_of_ble_eq_true rfl) (dc_X10_band 27 rfl) ho q1826 q1828 (show e_cl[8]? = some (RX10, TX10, 51) from rfl) (e_sel.of qs60) (e_is_of i82) rfl (Nat.le_of_ble_eq_true rfl)) (by omega) (fun _ e => ct_X10_onMany (by omega) e) (fun x82 e82 => ?_)
          refine Sx.err hE1 ?_
          exact S_iret (dc_X10_band 28 rfl) hT rfl (e_rqI hr)
        refine Sx.case (fun c29_3 => ?_) (fun c29_3 => ?_)
        · refine S_tsIn 86 c29_3 (dc_X10_band 16 rfl) (by decide) (by decide) rfl rfl ?_
          refine S_aload_n (dc_X10_band 29 rfl) rfl ?_
          refine S_iload_n (dc_X10_band 30 rfl) rfl ?_
          refine Sx.ask (fun _ i88 => ?_)
          refine S_roI (d := k_d K - 1) (e_callV (b := a0) (As := [.int a1]) (rest := []) ok_X10_within rfl (Nat.le_of_ble_eq_true rfl) (dc_X10_band 31 rfl) ho q1833 q1835 (show e_cl[8]? = some (RX10, TX10, 51) from rfl) (e_sel.of qs61) (e_is_of i88) rfl (Nat.le_of_ble_eq_true rfl)) (by omega) (fun _ e => ct_X10_within (by omega) e) (fun x88 e88 => ?_)
          refine Sx.err hE1 ?_
          exact S_iret (dc_X10_band 32 rfl) hT rfl (e_rqI hr)
        refine Sx.case (fun c29_4 => ?_) (fun c29_4 => ?_)
        · refine S_tsIn 92 c29_4 (dc_X10_band 16 rfl) (by decide) (by decide) rfl rfl ?_
          refine S_aload_n (dc_X10_band 33 rfl) rfl ?_
          refine S_iload_n (dc_X10_band 34 rfl) rfl ?_
          refine Sx.ask (fun _ i94 => ?_)
          refine S_roI (d := k_d K - 1) (e_callV (b := a0) (As := [.int a1]) (rest := []) ok_X10_bent rfl (Nat.le_of_ble_eq_true rfl) (dc_X10_band 35 rfl) ho q1837 q1839 (show e_cl[8]? = some (RX10, TX10, 51) from rfl) (e_sel.of qs62) (e_is_of i94) rfl (Nat.le_of_ble_eq_true rfl)) (by omega) (fun _ e => ct_X10_bent (by omega) e) (fun x94 e94 => ?_)
          refine Sx.err hE1 ?_
          exact S_iret (dc_X10_band 36 rfl) hT rfl (e_rqI hr)
        refine Sx.case (fun c29_5 => ?_) (fun c29_5 => ?_)
        · refine S_tsIn 98 c29_5 (dc_X10_band 16 rfl) (by decide) (by decide) rfl rfl ?_
          refine S_aload_n (dc_X10_band 37 rfl) rfl ?_
          refine S_iload_n (dc_X10_band 38 rfl) rfl ?_
          refine Sx.ask (fun _ i100 => ?_)
          refine S_roI (d := k_d K - 1) (e_callV (b := a0) (As := [.int a1]) (rest := []) ok_X10_right rfl (Nat.le_of_ble_eq_true rfl) (dc_X10_band 39 rfl) ho q1841 q1843 (show e_cl[8]? = some (RX10, TX10, 51) from rfl) (e_sel.of qs63) (e_is_of i100) rfl (Nat.le_of_ble_eq_true rfl)) (by omega) (fun _ e => ct_X10_right (by omega) e) (fun x100 e100 => ?_)
          refine Sx.err hE1 ?_
          exact S_iret (dc_X10_band 40 rfl) hT rfl (e_rqI hr)
        refine S_tsOut 104 (dc_X10_band 16 rfl) (by have := e_neI (k := 0) c29_0 (by decide); have := e_neI (k := 1) c29_1 (by decide); have := e_neI (k := 2) c29_2 (by decide); have := e_neI (k := 3) c29_3 (by decide); have := e_neI (k := 4) c29_4 (by decide); have := e_neI (k := 5) c29_5 (by decide); omega) rfl ?_
        refine S_iconst_ 0 (dc_X10_band 41 rfl) rfl ?_
        refine S_istore_n (L' := [some (.ref a0), some (.int a1), some (.int a2), some (.int 0), none]) (dc_X10_band 42 rfl) rfl ?_
        refine S_iconst_ 0 (dc_X10_band 43 rfl) rfl ?_
        refine S_istore (L' := [some (.ref a0), some (.int a1), some (.int a2), some (.int 0), some (.int 0)]) (dc_X10_band 44 rfl) rfl ?_
        refine Sx.regK1 (pc2 := 141) (L2 := fun (x3_141_2 : Int32) => [none, none, none, some (.int x3_141_2), none]) (st2 := fun (x3_141_2 : Int32) => []) (h2 := fun (x3_141_2 : Int32) => h25) ?_ (fun Q2 hK2 => ?_)
        · intro x3_141_2
          show Sx K cX10_band 141 [none, none, none, some (.int x3_141_2), none] [] h25 _ _
          refine S_iload_n (dc_X10_band 62 rfl) rfl ?_
          refine Sx.err hE1 ?_
          exact S_iret (dc_X10_band 63 rfl) hT rfl (e_rqI hr)
        · have hK2 : ∀ (x3_141_2 : Int32), Sx K cX10_band 141 [none, none, none, some (.int x3_141_2), none] [] h25 (some x3_141_2) Q2 := hK2
          have ih2 : ∀ (n : Nat) (x3_109 : Int32) (x4_109 : Int32), Sx K cX10_band 109 [some (.ref a0), some (.int a1), none, some (.int x3_109), some (.int x4_109)] [] h25 (lp_X10_band_109 F h25 a0 a1 n x3_109 x4_109) Q2 := by
            intro n
            induction n with
            | zero => intro x3_109 x4_109; exact Sx.none
            | succ n ih2 =>
              intro x3_109 x4_109
              rw [lp_X10_band_109.eq_2]
              refine S_iload (dc_X10_band 45 rfl) rfl ?_
              refine S_aload_n (dc_X10_band 46 rfl) rfl ?_
              refine Sx.ask (fun _ i112 => ?_)
              refine S_roI (d := k_d K - 1) (e_callV (b := a0) (As := []) (rest := [.int x4_109]) ok_X10_bands rfl (Nat.le_of_ble_eq_true rfl) (dc_X10_band 47 rfl) ho q1795 q1797 (show e_cl[8]? = some (RX10, TX10, 51) from rfl) (e_sel.of qs53) (e_is_of i112) rfl (Nat.le_of_ble_eq_true rfl)) (by omega) (fun _ e => ct_X10_bands (by omega) e) (fun x112 e112 => ?_)
              refine S_icmp_ge 141 (dc_X10_band 48 rfl) rfl (fun c115 => ?_) (fun c115 => ?_)
              · refine Sx.cut [false, false, true, true, false] ?_
                exact hK2 x3_109
              · refine S_iload (dc_X10_band 49 rfl) rfl ?_
                refine S_iload_n (dc_X10_band 50 rfl) rfl ?_
                refine Sx.regK1 (pc2 := 135) (L2 := fun (x3_135_3 : Int32) => [some (.ref a0), some (.int a1), none, some (.int x3_135_3), some (.int x4_109)]) (st2 := fun (x3_135_3 : Int32) => []) (h2 := fun (x3_135_3 : Int32) => h25) ?_ (fun Q3 hK3 => ?_)
                · intro x3_135_3
                  show Sx K cX10_band 135 [some (.ref a0), some (.int a1), none, some (.int x3_135_3), some (.int x4_109)] [] h25 _ _
                  refine S_iincN 1 (L' := fun x135 => [some (.ref a0), some (.int a1), none, some (.int x3_135_3), some (.int x135)]) (dc_X10_band 60 rfl) rfl rfl (fun _ => rfl) (fun x135 n135 => ?_)
                  refine S_goto 109 (dc_X10_band 61 rfl) rfl ?_
                  exact ih2 x3_135_3 x135
                · have hK3 : ∀ (x3_135_3 : Int32), Sx K cX10_band 135 [some (.ref a0), some (.int a1), none, some (.int x3_135_3), some (.int x4_109)] [] h25 (some x3_135_3) Q3 := hK3
                  refine S_icmp_eq 135 (dc_X10_band 51 rfl) rfl (fun c121 => ?_) (fun c121 => ?_)
                  · exact hK3 x3_109
                  · refine S_iload_n (dc_X10_band 52 rfl) rfl ?_
                    refine S_aload_n (dc_X10_band 53 rfl) rfl ?_
                    refine S_iload_n (dc_X10_band 54 rfl) rfl ?_
                    refine S_iload (dc_X10_band 55 rfl) rfl ?_
                    refine S_iconst_ 1 (dc_X10_band 56 rfl) rfl ?_
                    refine S_roI (d := k_d K - 1) (e_callV (b := a0) (As := [.int a1, .int x4_109, .int 1]) (rest := [.int x3_109]) ok_X10_crossings rfl (Nat.le_of_ble_eq_true rfl) (dc_X10_band 57 rfl) ho q1845 q1847 (show e_cl[8]? = some (RX10, TX10, 51) from rfl) (e_sel.of qs64) (e_is_of i112) rfl (Nat.le_of_ble_eq_true rfl)) (by omega) (fun _ e => ct_X10_crossings (by omega) e) (fun x130 e130 => ?_)
                    refine S_iadd (dc_X10_band 58 rfl) ?_
                    refine Sx.nameI (fun x134 n134 => ?_)
                    refine S_istore_n (L' := [some (.ref a0), some (.int a1), none, some (.int x134), some (.int x4_109)]) (dc_X10_band 59 rfl) rfl ?_
                    exact hK3 x134
          refine Sx.cut [true, true, false, true, true] ?_
          exact ih2 F 0 0
      · refine Sx.cut [true, false, false, true, true] ?_
        exact hK1 h
abbrev cX10_corner : ByteArray := prog_18_method_64_code
def yX10_corner : MethodName := ⟨"PegBandsModel", "corner", "(II)I"⟩
def tb_X10_corner : List (Nat × Instr × Nat) := [(0, .aload_n 0, 1), (1, .iconst 0, 1), (2, .putfield 94, 3), (5, .aload_n 0, 1), (6, .iload_n 1, 1), (7, .invokevirtual 304, 3), (10, .ifCond .eq 35, 3), (13, .iload_n 2, 1), (14, .ifCond .lt 31, 3), (17, .iload_n 2, 1), (18, .aload_n 0, 1), (19, .iload_n 1, 1), (20, .invokevirtual 279, 3), (23, .if_icmp .ge 22, 3), (26, .bipush 10, 2), (28, .aload_n 0, 1), (29, .iload_n 1, 1), (30, .iload_n 2, 1), (31, .invokevirtual 289, 3), (34, .imul, 1), (35, .aload_n 0, 1), (36, .iload_n 1, 1), (37, .iload_n 2, 1), (38, .invokevirtual 285, 3), (41, .iadd, 1), (42, .goto 4, 3), (45, .iconst (-1), 1), (46, .ireturn, 1)]
theorem tk_X10_corner : ∀ q ∈ tb_X10_corner, decode cX10_corner q.1 = .ok q.2 := by decide +kernel
theorem dc_X10_corner (k : Nat) {pc n : Nat} {i : Instr} (h : tb_X10_corner[k]? = some (pc, i, n)) : decode cX10_corner pc = .ok (i, n) := tk_X10_corner (pc, i, n) (List.mem_of_getElem? h)
abbrev mX10_corner : e_M := (yX10_corner, cX10_corner, 3, some (.int), [])
theorem ok_X10_corner : e_mok mX10_corner 2 := ⟨q1852, q119, by decide +kernel, fun sig h => by cases h; rfl⟩
def f_X10_corner (h : e_H) (a0 : Nat) (a1 : Int32) (a2 : Int32) : Option (Int32 × e_H) :=
  Option.bind (e_gI h a0 8 0 0) (fun h2 =>
  Option.bind (e_is h2 a0 8) (fun _ =>
  Option.bind (f_X10_isBand h2 a0 a1) (fun x7 =>
  if x7 = 0 then
    some ((-1), h2)
  else
    if a2 < 0 then
      some ((-1), h2)
    else
      Option.bind (f_X10_corners h2 a0 a1) (fun x20 =>
      if x20 ≤ a2 then
        some ((-1), h2)
      else
        Option.bind (f_X10_y h2 a0 a1 a2) (fun x31 =>
        Option.bind (f_X10_x h2 a0 a1 a2) (fun x38 =>
        some (((10 * x31) + x38), h2)))))))
set_option maxHeartbeats 4000000 in
set_option maxRecDepth 100000 in
theorem ct_X10_corner {l : Launch} {D : e_D} {B : Heap} {d : Nat} {h : e_H} {a0 : Nat} {a1 : Int32} {a2 : Int32} {v : Int32} {h1 : e_H} (hd : 4 ≤ d) (e : f_X10_corner h a0 a1 a2 = some (v, h1)) : e_Run l D B d mX10_corner [.ref a0, .int a1, .int a2] h (.ok (some (.int v)), h1) := by
  refine e_start [some (.ref a0), some (.int a1), some (.int a2)] (by decide) rfl rfl rfl (Nat.le_of_ble_eq_true rfl) (fun K hl0 hD0 hB0 hM hd0 hr => ?_)
  subst hl0 hD0 hB0 hd0
  have ho : (k_M K).1.cls = "PegBandsModel" := by rw [hM]; rfl
  have hT : (k_M K).2.2.2.1 = some (.int) := by rw [hM]
  refine (show Sx K cX10_corner 0 [some (.ref a0), some (.int a1), some (.int a2)] [] h (f_X10_corner h a0 a1 a2) (fun w => w = (v, h1)) from ?_) _ e rfl
  clear e
  unfold f_X10_corner
  refine S_aload_n (dc_X10_corner 0 rfl) rfl ?_
  refine S_iconst_ 0 (dc_X10_corner 1 rfl) rfl ?_
  refine S_putI (dc_X10_corner 2 rfl) ho fl_X10_94_8_0 (fun _ _ => rfl) (Or.inl rfl) rfl rfl (fun h2 e2 => ?_)
  refine S_aload_n (dc_X10_corner 3 rfl) rfl ?_
  refine S_iload_n (dc_X10_corner 4 rfl) rfl ?_
  refine Sx.ask (fun _ i7 => ?_)
  refine S_roI (d := k_d K - 1) (e_callV (b := a0) (As := [.int a1]) (rest := []) ok_X10_isBand rfl (Nat.le_of_ble_eq_true rfl) (dc_X10_corner 5 rfl) ho q1791 q1793 (show e_cl[8]? = some (RX10, TX10, 51) from rfl) (e_sel.of qs52) (e_is_of i7) rfl (Nat.le_of_ble_eq_true rfl)) (by omega) (fun _ e => ct_X10_isBand (by omega) e) (fun x7 e7 => ?_)
  refine S_if_eq 45 (dc_X10_corner 6 rfl) rfl (fun c10 => ?_) (fun c10 => ?_)
  · refine S_iconst_ (-1) (dc_X10_corner 26 rfl) rfl ?_
    exact S_iret (dc_X10_corner 27 rfl) hT rfl (e_rqI hr)
  · refine S_iload_n (dc_X10_corner 7 rfl) rfl ?_
    refine S_if_lt 45 (dc_X10_corner 8 rfl) rfl (fun c14 => ?_) (fun c14 => ?_)
    · refine S_iconst_ (-1) (dc_X10_corner 26 rfl) rfl ?_
      exact S_iret (dc_X10_corner 27 rfl) hT rfl (e_rqI hr)
    · refine S_iload_n (dc_X10_corner 9 rfl) rfl ?_
      refine S_aload_n (dc_X10_corner 10 rfl) rfl ?_
      refine S_iload_n (dc_X10_corner 11 rfl) rfl ?_
      refine S_roI (d := k_d K - 1) (e_callV (b := a0) (As := [.int a1]) (rest := [.int a2]) ok_X10_corners rfl (Nat.le_of_ble_eq_true rfl) (dc_X10_corner 12 rfl) ho q1803 q1805 (show e_cl[8]? = some (RX10, TX10, 51) from rfl) (e_sel.of qs55) (e_is_of i7) rfl (Nat.le_of_ble_eq_true rfl)) (by omega) (fun _ e => ct_X10_corners (by omega) e) (fun x20 e20 => ?_)
      refine S_icmp_ge 45 (dc_X10_corner 13 rfl) rfl (fun c23 => ?_) (fun c23 => ?_)
      · refine S_iconst_ (-1) (dc_X10_corner 26 rfl) rfl ?_
        exact S_iret (dc_X10_corner 27 rfl) hT rfl (e_rqI hr)
      · refine S_bipush_ 10 (dc_X10_corner 14 rfl) rfl ?_
        refine S_aload_n (dc_X10_corner 15 rfl) rfl ?_
        refine S_iload_n (dc_X10_corner 16 rfl) rfl ?_
        refine S_iload_n (dc_X10_corner 17 rfl) rfl ?_
        refine S_roI (d := k_d K - 1) (e_callV (b := a0) (As := [.int a1, .int a2]) (rest := [.int 10]) ok_X10_y rfl (Nat.le_of_ble_eq_true rfl) (dc_X10_corner 18 rfl) ho q1819 q1821 (show e_cl[8]? = some (RX10, TX10, 51) from rfl) (e_sel.of qs59) (e_is_of i7) rfl (Nat.le_of_ble_eq_true rfl)) (by omega) (fun _ e => ct_X10_y (by omega) e) (fun x31 e31 => ?_)
        refine S_imul (dc_X10_corner 19 rfl) ?_
        refine S_aload_n (dc_X10_corner 20 rfl) rfl ?_
        refine S_iload_n (dc_X10_corner 21 rfl) rfl ?_
        refine S_iload_n (dc_X10_corner 22 rfl) rfl ?_
        refine S_roI (d := k_d K - 1) (e_callV (b := a0) (As := [.int a1, .int a2]) (rest := [.int (10 * x31)]) ok_X10_x rfl (Nat.le_of_ble_eq_true rfl) (dc_X10_corner 23 rfl) ho q1815 q1817 (show e_cl[8]? = some (RX10, TX10, 51) from rfl) (e_sel.of qs58) (e_is_of i7) rfl (Nat.le_of_ble_eq_true rfl)) (by omega) (fun _ e => ct_X10_x (by omega) e) (fun x38 e38 => ?_)
        refine S_iadd (dc_X10_corner 24 rfl) ?_
        refine S_goto 46 (dc_X10_corner 25 rfl) rfl ?_
        exact S_iret (dc_X10_corner 27 rfl) hT rfl (e_rqI hr)
abbrev cX10_side : ByteArray := prog_18_method_65_code
def yX10_side : MethodName := ⟨"PegBandsModel", "side", "(II)I"⟩
def tb_X10_side : List (Nat × Instr × Nat) := [(0, .aload_n 0, 1), (1, .iconst 0, 1), (2, .putfield 94, 3), (5, .aload_n 0, 1), (6, .iload_n 1, 1), (7, .invokevirtual 304, 3), (10, .ifCond .eq 16, 3), (13, .iload_n 2, 1), (14, .ifCond .lt 12, 3), (17, .iload_n 2, 1), (18, .aload_n 0, 1), (19, .iload_n 1, 1), (20, .invokevirtual 279, 3), (23, .if_icmp .lt 5, 3), (26, .iconst (-1), 1), (27, .ireturn, 1), (28, .aload_n 0, 1), (29, .iload_n 1, 1), (30, .iload_n 2, 1), (31, .iconst 1, 1), (32, .iadd, 1), (33, .invokevirtual 285, 3), (36, .aload_n 0, 1), (37, .iload_n 1, 1), (38, .iload_n 2, 1), (39, .invokevirtual 285, 3), (42, .isub, 1), (43, .istore_n 3, 1), (44, .aload_n 0, 1), (45, .iload_n 1, 1), (46, .iload_n 2, 1), (47, .iconst 1, 1), (48, .iadd, 1), (49, .invokevirtual 289, 3), (52, .aload_n 0, 1), (53, .iload_n 1, 1), (54, .iload_n 2, 1), (55, .invokevirtual 289, 3), (58, .isub, 1), (59, .istore 4, 2), (61, .iload_n 3, 1), (62, .iload_n 3, 1), (63, .imul, 1), (64, .iload 4, 2), (66, .iload 4, 2), (68, .imul, 1), (69, .iadd, 1), (70, .ireturn, 1)]
theorem tk_X10_side : ∀ q ∈ tb_X10_side, decode cX10_side q.1 = .ok q.2 := by decide +kernel
theorem dc_X10_side (k : Nat) {pc n : Nat} {i : Instr} (h : tb_X10_side[k]? = some (pc, i, n)) : decode cX10_side pc = .ok (i, n) := tk_X10_side (pc, i, n) (List.mem_of_getElem? h)
abbrev mX10_side : e_M := (yX10_side, cX10_side, 5, some (.int), [])
theorem ok_X10_side : e_mok mX10_side 2 := ⟨q1856, q119, by decide +kernel, fun sig h => by cases h; rfl⟩
def f_X10_side (h : e_H) (a0 : Nat) (a1 : Int32) (a2 : Int32) : Option (Int32 × e_H) :=
  Option.bind (e_gI h a0 8 0 0) (fun h2 =>
  Option.bind (e_is h2 a0 8) (fun _ =>
  Option.bind (f_X10_isBand h2 a0 a1) (fun x7 =>
  if x7 = 0 then
    some ((-1), h2)
  else
    if a2 < 0 then
      some ((-1), h2)
    else
      Option.bind (f_X10_corners h2 a0 a1) (fun x20 =>
      if a2 < x20 then
        Option.bind (f_X10_x h2 a0 a1 (a2 + 1)) (fun x33 =>
        Option.bind (f_X10_x h2 a0 a1 a2) (fun x39 =>
        Option.bind (some (x33 - x39)) (fun x43 =>
        Option.bind (f_X10_y h2 a0 a1 (a2 + 1)) (fun x49 =>
        Option.bind (f_X10_y h2 a0 a1 a2) (fun x55 =>
        Option.bind (some (x49 - x55)) (fun x59 =>
        some (((x43 * x43) + (x59 * x59)), h2)))))))
      else
        some ((-1), h2)))))
set_option maxHeartbeats 4000000 in
set_option maxRecDepth 100000 in
theorem ct_X10_side {l : Launch} {D : e_D} {B : Heap} {d : Nat} {h : e_H} {a0 : Nat} {a1 : Int32} {a2 : Int32} {v : Int32} {h1 : e_H} (hd : 4 ≤ d) (e : f_X10_side h a0 a1 a2 = some (v, h1)) : e_Run l D B d mX10_side [.ref a0, .int a1, .int a2] h (.ok (some (.int v)), h1) := by
  refine e_start [some (.ref a0), some (.int a1), some (.int a2), none, none] (by decide) rfl rfl rfl (Nat.le_of_ble_eq_true rfl) (fun K hl0 hD0 hB0 hM hd0 hr => ?_)
  subst hl0 hD0 hB0 hd0
  have ho : (k_M K).1.cls = "PegBandsModel" := by rw [hM]; rfl
  have hT : (k_M K).2.2.2.1 = some (.int) := by rw [hM]
  refine (show Sx K cX10_side 0 [some (.ref a0), some (.int a1), some (.int a2), none, none] [] h (f_X10_side h a0 a1 a2) (fun w => w = (v, h1)) from ?_) _ e rfl
  clear e
  unfold f_X10_side
  refine S_aload_n (dc_X10_side 0 rfl) rfl ?_
  refine S_iconst_ 0 (dc_X10_side 1 rfl) rfl ?_
  refine S_putI (dc_X10_side 2 rfl) ho fl_X10_94_8_0 (fun _ _ => rfl) (Or.inl rfl) rfl rfl (fun h2 e2 => ?_)
  refine S_aload_n (dc_X10_side 3 rfl) rfl ?_
  refine S_iload_n (dc_X10_side 4 rfl) rfl ?_
  refine Sx.ask (fun _ i7 => ?_)
  refine S_roI (d := k_d K - 1) (e_callV (b := a0) (As := [.int a1]) (rest := []) ok_X10_isBand rfl (Nat.le_of_ble_eq_true rfl) (dc_X10_side 5 rfl) ho q1791 q1793 (show e_cl[8]? = some (RX10, TX10, 51) from rfl) (e_sel.of qs52) (e_is_of i7) rfl (Nat.le_of_ble_eq_true rfl)) (by omega) (fun _ e => ct_X10_isBand (by omega) e) (fun x7 e7 => ?_)
  refine S_if_eq 26 (dc_X10_side 6 rfl) rfl (fun c10 => ?_) (fun c10 => ?_)
  · refine S_iconst_ (-1) (dc_X10_side 14 rfl) rfl ?_
    exact S_iret (dc_X10_side 15 rfl) hT rfl (e_rqI hr)
  · refine S_iload_n (dc_X10_side 7 rfl) rfl ?_
    refine S_if_lt 26 (dc_X10_side 8 rfl) rfl (fun c14 => ?_) (fun c14 => ?_)
    · refine S_iconst_ (-1) (dc_X10_side 14 rfl) rfl ?_
      exact S_iret (dc_X10_side 15 rfl) hT rfl (e_rqI hr)
    · refine S_iload_n (dc_X10_side 9 rfl) rfl ?_
      refine S_aload_n (dc_X10_side 10 rfl) rfl ?_
      refine S_iload_n (dc_X10_side 11 rfl) rfl ?_
      refine S_roI (d := k_d K - 1) (e_callV (b := a0) (As := [.int a1]) (rest := [.int a2]) ok_X10_corners rfl (Nat.le_of_ble_eq_true rfl) (dc_X10_side 12 rfl) ho q1803 q1805 (show e_cl[8]? = some (RX10, TX10, 51) from rfl) (e_sel.of qs55) (e_is_of i7) rfl (Nat.le_of_ble_eq_true rfl)) (by omega) (fun _ e => ct_X10_corners (by omega) e) (fun x20 e20 => ?_)
      refine S_icmp_lt 28 (dc_X10_side 13 rfl) rfl (fun c23 => ?_) (fun c23 => ?_)
      · refine S_aload_n (dc_X10_side 16 rfl) rfl ?_
        refine S_iload_n (dc_X10_side 17 rfl) rfl ?_
        refine S_iload_n (dc_X10_side 18 rfl) rfl ?_
        refine S_iconst_ 1 (dc_X10_side 19 rfl) rfl ?_
        refine S_iadd (dc_X10_side 20 rfl) ?_
        refine S_roI (d := k_d K - 1) (e_callV (b := a0) (As := [.int a1, .int (a2 + 1)]) (rest := []) ok_X10_x rfl (Nat.le_of_ble_eq_true rfl) (dc_X10_side 21 rfl) ho q1815 q1817 (show e_cl[8]? = some (RX10, TX10, 51) from rfl) (e_sel.of qs58) (e_is_of i7) rfl (Nat.le_of_ble_eq_true rfl)) (by omega) (fun _ e => ct_X10_x (by omega) e) (fun x33 e33 => ?_)
        refine S_aload_n (dc_X10_side 22 rfl) rfl ?_
        refine S_iload_n (dc_X10_side 23 rfl) rfl ?_
        refine S_iload_n (dc_X10_side 24 rfl) rfl ?_
        refine S_roI (d := k_d K - 1) (e_callV (b := a0) (As := [.int a1, .int a2]) (rest := [.int x33]) ok_X10_x rfl (Nat.le_of_ble_eq_true rfl) (dc_X10_side 25 rfl) ho q1815 q1817 (show e_cl[8]? = some (RX10, TX10, 51) from rfl) (e_sel.of qs58) (e_is_of i7) rfl (Nat.le_of_ble_eq_true rfl)) (by omega) (fun _ e => ct_X10_x (by omega) e) (fun x39 e39 => ?_)
        refine S_isub (dc_X10_side 26 rfl) ?_
        refine Sx.nameI (fun x43 n43 => ?_)
        refine S_istore_n (L' := [some (.ref a0), some (.int a1), some (.int a2), some (.int x43), none]) (dc_X10_side 27 rfl) rfl ?_
        refine S_aload_n (dc_X10_side 28 rfl) rfl ?_
        refine S_iload_n (dc_X10_side 29 rfl) rfl ?_
        refine S_iload_n (dc_X10_side 30 rfl) rfl ?_
        refine S_iconst_ 1 (dc_X10_side 31 rfl) rfl ?_
        refine S_iadd (dc_X10_side 32 rfl) ?_
        refine S_roI (d := k_d K - 1) (e_callV (b := a0) (As := [.int a1, .int (a2 + 1)]) (rest := []) ok_X10_y rfl (Nat.le_of_ble_eq_true rfl) (dc_X10_side 33 rfl) ho q1819 q1821 (show e_cl[8]? = some (RX10, TX10, 51) from rfl) (e_sel.of qs59) (e_is_of i7) rfl (Nat.le_of_ble_eq_true rfl)) (by omega) (fun _ e => ct_X10_y (by omega) e) (fun x49 e49 => ?_)
        refine S_aload_n (dc_X10_side 34 rfl) rfl ?_
        refine S_iload_n (dc_X10_side 35 rfl) rfl ?_
        refine S_iload_n (dc_X10_side 36 rfl) rfl ?_
        refine S_roI (d := k_d K - 1) (e_callV (b := a0) (As := [.int a1, .int a2]) (rest := [.int x49]) ok_X10_y rfl (Nat.le_of_ble_eq_true rfl) (dc_X10_side 37 rfl) ho q1819 q1821 (show e_cl[8]? = some (RX10, TX10, 51) from rfl) (e_sel.of qs59) (e_is_of i7) rfl (Nat.le_of_ble_eq_true rfl)) (by omega) (fun _ e => ct_X10_y (by omega) e) (fun x55 e55 => ?_)
        refine S_isub (dc_X10_side 38 rfl) ?_
        refine Sx.nameI (fun x59 n59 => ?_)
        refine S_istore (L' := [some (.ref a0), some (.int a1), some (.int a2), some (.int x43), some (.int x59)]) (dc_X10_side 39 rfl) rfl ?_
        refine S_iload_n (dc_X10_side 40 rfl) rfl ?_
        refine S_iload_n (dc_X10_side 41 rfl) rfl ?_
        refine S_imul (dc_X10_side 42 rfl) ?_
        refine S_iload (dc_X10_side 43 rfl) rfl ?_
        refine S_iload (dc_X10_side 44 rfl) rfl ?_
        refine S_imul (dc_X10_side 45 rfl) ?_
        refine S_iadd (dc_X10_side 46 rfl) ?_
        exact S_iret (dc_X10_side 47 rfl) hT rfl (e_rqI hr)
      · refine S_iconst_ (-1) (dc_X10_side 14 rfl) rfl ?_
        exact S_iret (dc_X10_side 15 rfl) hT rfl (e_rqI hr)
abbrev cX10_isOn : ByteArray := prog_18_method_66_code
def yX10_isOn : MethodName := ⟨"PegBandsModel", "isOn", "(III)Z"⟩
def tb_X10_isOn : List (Nat × Instr × Nat) := [(0, .iconst 0, 1), (1, .istore 4, 2), (3, .iload 4, 2), (5, .aload_n 0, 1), (6, .iload_n 1, 1), (7, .invokevirtual 279, 3), (10, .if_icmp .ge 51, 3), (13, .iload_n 2, 1), (14, .iload_n 3, 1), (15, .aload_n 0, 1), (16, .iload_n 1, 1), (17, .iload 4, 2), (19, .invokevirtual 285, 3), (22, .aload_n 0, 1), (23, .iload_n 1, 1), (24, .iload 4, 2), (26, .invokevirtual 289, 3), (29, .aload_n 0, 1), (30, .iload_n 1, 1), (31, .iload 4, 2), (33, .iconst 1, 1), (34, .iadd, 1), (35, .invokevirtual 285, 3), (38, .aload_n 0, 1), (39, .iload_n 1, 1), (40, .iload 4, 2), (42, .iconst 1, 1), (43, .iadd, 1), (44, .invokevirtual 289, 3), (47, .invokestatic 199, 3), (50, .ifCond .eq 5, 3), (53, .iconst 1, 1), (54, .ireturn, 1), (55, .iinc 4 1, 3), (58, .goto (-55), 3), (61, .iconst 0, 1), (62, .ireturn, 1)]
theorem tk_X10_isOn : ∀ q ∈ tb_X10_isOn, decode cX10_isOn q.1 = .ok q.2 := by decide +kernel
theorem dc_X10_isOn (k : Nat) {pc n : Nat} {i : Instr} (h : tb_X10_isOn[k]? = some (pc, i, n)) : decode cX10_isOn pc = .ok (i, n) := tk_X10_isOn (pc, i, n) (List.mem_of_getElem? h)
abbrev mX10_isOn : e_M := (yX10_isOn, cX10_isOn, 5, some (.boolean), [])
theorem ok_X10_isOn : e_mok mX10_isOn 3 := ⟨q1868, q119, by decide +kernel, fun sig h => by cases h; rfl⟩
def lp_X10_isOn_3 (F : Nat) (h : e_H) (a0 : Nat) (a1 : Int32) (a2 : Int32) (a3 : Int32) : Nat → Int32 → Option (Except Int32 Unit)
  | 0, _ => none
  | n + 1, x4_3 =>
    Option.bind (e_is h a0 8) (fun _ =>
    Option.bind (f_X10_corners h a0 a1) (fun x7 =>
    if x7 ≤ x4_3 then
      some (.ok ())
    else
      Option.bind (f_X10_x h a0 a1 x4_3) (fun x19 =>
      Option.bind (f_X10_y h a0 a1 x4_3) (fun x26 =>
      Option.bind (f_X10_x h a0 a1 (x4_3 + 1)) (fun x35 =>
      Option.bind (f_X10_y h a0 a1 (x4_3 + 1)) (fun x44 =>
      Option.bind (f_X10_isOnSide a2 a3 x19 x26 x35 x44) (fun x47 =>
      if x47 = 0 then
        Option.bind (some (x4_3 + 1)) (fun x55 =>
        lp_X10_isOn_3 F h a0 a1 a2 a3 n x55)
      else
        some (.error 1))))))))
def f_X10_isOn (F : Nat) (h : e_H) (a0 : Nat) (a1 : Int32) (a2 : Int32) (a3 : Int32) : Option Int32 :=
  e_bE (
      lp_X10_isOn_3 F h a0 a1 a2 a3 F 0
    : Option (Except Int32 Unit)) (fun _ =>
  some 0)
set_option maxHeartbeats 4000000 in
set_option maxRecDepth 100000 in
theorem ct_X10_isOn {l : Launch} {D : e_D} {B : Heap} {F : Nat} {d : Nat} {h : e_H} {a0 : Nat} {a1 : Int32} {a2 : Int32} {a3 : Int32} {v : Int32} (hd : 4 ≤ d) (e : f_X10_isOn F h a0 a1 a2 a3 = some v) : e_Run l D B d mX10_isOn [.ref a0, .int a1, .int a2, .int a3] h (.ok (some (.int v)), h) := by
  refine e_start [some (.ref a0), some (.int a1), some (.int a2), some (.int a3), none] (by decide) rfl rfl rfl (Nat.le_of_ble_eq_true rfl) (fun K hl0 hD0 hB0 hM hd0 hr => ?_)
  subst hl0 hD0 hB0 hd0
  have ho : (k_M K).1.cls = "PegBandsModel" := by rw [hM]; rfl
  have hT : (k_M K).2.2.2.1 = some (.boolean) := by rw [hM]
  refine (show Sx K cX10_isOn 0 [some (.ref a0), some (.int a1), some (.int a2), some (.int a3), none] [] h (f_X10_isOn F h a0 a1 a2 a3) (fun w => w = v) from ?_) _ e rfl
  clear e
  unfold f_X10_isOn
  refine S_iconst_ 0 (dc_X10_isOn 0 rfl) rfl ?_
  refine S_istore (L' := [some (.ref a0), some (.int a1), some (.int a2), some (.int a3), some (.int 0)]) (dc_X10_isOn 1 rfl) rfl ?_
  refine Sx.regKE0 (pc2 := 61) (L2 := [none, none, none, none, none]) (st2 := []) (h2 := h) ?_ (fun Q1 hK1 hE1 => ?_)
  · skip
    refine S_iconst_ 0 (dc_X10_isOn 35 rfl) rfl ?_
    exact S_iret (dc_X10_isOn 36 rfl) hT rfl (fun q => by cases q; exact hr)
  · have hK1 : Sx K cX10_isOn 61 [none, none, none, none, none] [] h (some (.ok ())) Q1 := hK1
    have ih1 : ∀ (n : Nat) (x4_3 : Int32), Sx K cX10_isOn 3 [some (.ref a0), some (.int a1), some (.int a2), some (.int a3), some (.int x4_3)] [] h (lp_X10_isOn_3 F h a0 a1 a2 a3 n x4_3) Q1 := by
      intro n
      induction n with
      | zero => intro x4_3; exact Sx.none
      | succ n ih1 =>
        intro x4_3
        rw [lp_X10_isOn_3.eq_2]
        refine S_iload (dc_X10_isOn 2 rfl) rfl ?_
        refine S_aload_n (dc_X10_isOn 3 rfl) rfl ?_
        refine S_iload_n (dc_X10_isOn 4 rfl) rfl ?_
        refine Sx.ask (fun _ i7 => ?_)
        refine S_roI (d := k_d K - 1) (e_callV (b := a0) (As := [.int a1]) (rest := [.int x4_3]) ok_X10_corners rfl (Nat.le_of_ble_eq_true rfl) (dc_X10_isOn 5 rfl) ho q1803 q1805 (show e_cl[8]? = some (RX10, TX10, 51) from rfl) (e_sel.of qs55) (e_is_of i7) rfl (Nat.le_of_ble_eq_true rfl)) (by omega) (fun _ e => ct_X10_corners (by omega) e) (fun x7 e7 => ?_)
        refine S_icmp_ge 61 (dc_X10_isOn 6 rfl) rfl (fun c10 => ?_) (fun c10 => ?_)
        · refine Sx.cut [false, false, false, false, false] ?_
          exact hK1
        · refine S_iload_n (dc_X10_isOn 7 rfl) rfl ?_
          refine S_iload_n (dc_X10_isOn 8 rfl) rfl ?_
          refine S_aload_n (dc_X10_isOn 9 rfl) rfl ?_
          refine S_iload_n (dc_X10_isOn 10 rfl) rfl ?_
          refine S_iload (dc_X10_isOn 11 rfl) rfl ?_
          refine S_roI (d := k_d K - 1) (e_callV (b := a0) (As := [.int a1, .int x4_3]) (rest := [.int a3, .int a2]) ok_X10_x rfl (Nat.le_of_ble_eq_true rfl) (dc_X10_isOn 12 rfl) ho q1815 q1817 (show e_cl[8]? = some (RX10, TX10, 51) from rfl) (e_sel.of qs58) (e_is_of i7) rfl (Nat.le_of_ble_eq_true rfl)) (by omega) (fun _ e => ct_X10_x (by omega) e) (fun x19 e19 => ?_)
          refine S_aload_n (dc_X10_isOn 13 rfl) rfl ?_
          refine S_iload_n (dc_X10_isOn 14 rfl) rfl ?_
          refine S_iload (dc_X10_isOn 15 rfl) rfl ?_
          refine S_roI (d := k_d K - 1) (e_callV (b := a0) (As := [.int a1, .int x4_3]) (rest := [.int x19, .int a3, .int a2]) ok_X10_y rfl (Nat.le_of_ble_eq_true rfl) (dc_X10_isOn 16 rfl) ho q1819 q1821 (show e_cl[8]? = some (RX10, TX10, 51) from rfl) (e_sel.of qs59) (e_is_of i7) rfl (Nat.le_of_ble_eq_true rfl)) (by omega) (fun _ e => ct_X10_y (by omega) e) (fun x26 e26 => ?_)
          refine S_aload_n (dc_X10_isOn 17 rfl) rfl ?_
          refine S_iload_n (dc_X10_isOn 18 rfl) rfl ?_
          refine S_iload (dc_X10_isOn 19 rfl) rfl ?_
          refine S_iconst_ 1 (dc_X10_isOn 20 rfl) rfl ?_
          refine S_iadd (dc_X10_isOn 21 rfl) ?_
          refine S_roI (d := k_d K - 1) (e_callV (b := a0) (As := [.int a1, .int (x4_3 + 1)]) (rest := [.int x26, .int x19, .int a3, .int a2]) ok_X10_x rfl (Nat.le_of_ble_eq_true rfl) (dc_X10_isOn 22 rfl) ho q1815 q1817 (show e_cl[8]? = some (RX10, TX10, 51) from rfl) (e_sel.of qs58) (e_is_of i7) rfl (Nat.le_of_ble_eq_true rfl)) (by omega) (fun _ e => ct_X10_x (by omega) e) (fun x35 e35 => ?_)
          refine S_aload_n (dc_X10_isOn 23 rfl) rfl ?_
          refine S_iload_n (dc_X10_isOn 24 rfl) rfl ?_
          refine S_iload (dc_X10_isOn 25 rfl) rfl ?_
          refine S_iconst_ 1 (dc_X10_isOn 26 rfl) rfl ?_
          refine S_iadd (dc_X10_isOn 27 rfl) ?_
          refine S_roI (d := k_d K - 1) (e_callV (b := a0) (As := [.int a1, .int (x4_3 + 1)]) (rest := [.int x35, .int x26, .int x19, .int a3, .int a2]) ok_X10_y rfl (Nat.le_of_ble_eq_true rfl) (dc_X10_isOn 28 rfl) ho q1819 q1821 (show e_cl[8]? = some (RX10, TX10, 51) from rfl) (e_sel.of qs59) (e_is_of i7) rfl (Nat.le_of_ble_eq_true rfl)) (by omega) (fun _ e => ct_X10_y (by omega) e) (fun x44 e44 => ?_)
          refine S_roI (d := k_d K - 1) (e_callS (As := [.int a2, .int a3, .int x19, .int x26, .int x35, .int x44]) (rest := []) ok_X10_isOnSide rfl (Nat.le_of_ble_eq_true rfl) (dc_X10_isOn 29 rfl) ho q1762 q1763 rfl (Nat.le_of_ble_eq_true rfl)) (by omega) (fun _ e => ct_X10_isOnSide (by omega) e) (fun x47 e47 => ?_)
          refine S_if_eq 55 (dc_X10_isOn 30 rfl) rfl (fun c50 => ?_) (fun c50 => ?_)
          · refine S_iincN 1 (L' := fun x55 => [some (.ref a0), some (.int a1), some (.int a2), some (.int a3), some (.int x55)]) (dc_X10_isOn 33 rfl) rfl rfl (fun _ => rfl) (fun x55 n55 => ?_)
            refine S_goto 3 (dc_X10_isOn 34 rfl) rfl ?_
            exact ih1 x55
          · refine S_iconst_ 1 (dc_X10_isOn 31 rfl) rfl ?_
            refine Sx.err hE1 ?_
            exact S_iret (dc_X10_isOn 32 rfl) hT rfl (fun q => by cases q; exact hr)
    exact ih1 F 0
abbrev cX10_encloses : ByteArray := prog_18_method_67_code
def yX10_encloses : MethodName := ⟨"PegBandsModel", "encloses", "(IIII)Z"⟩
def tb_X10_encloses : List (Nat × Instr × Nat) := [(0, .iconst 0, 1), (1, .istore 5, 2), (3, .iconst 0, 1), (4, .istore 6, 2), (6, .iload 6, 2), (8, .aload_n 0, 1), (9, .iload_n 1, 1), (10, .invokevirtual 279, 3), (13, .if_icmp .ge 144, 3), (16, .iload 4, 2), (18, .aload_n 0, 1), (19, .iload_n 1, 1), (20, .iload 6, 2), (22, .invokevirtual 285, 3), (25, .imul, 1), (26, .istore 7, 2), (28, .iload 4, 2), (30, .aload_n 0, 1), (31, .iload_n 1, 1), (32, .iload 6, 2), (34, .invokevirtual 289, 3), (37, .imul, 1), (38, .istore 8, 2), (40, .iload 4, 2), (42, .aload_n 0, 1), (43, .iload_n 1, 1), (44, .iload 6, 2), (46, .iconst 1, 1), (47, .iadd, 1), (48, .invokevirtual 285, 3), (51, .imul, 1), (52, .istore 9, 2), (54, .iload 4, 2), (56, .aload_n 0, 1), (57, .iload_n 1, 1), (58, .iload 6, 2), (60, .iconst 1, 1), (61, .iadd, 1), (62, .invokevirtual 289, 3), (65, .imul, 1), (66, .istore 10, 2), (68, .iload 8, 2), (70, .iload_n 3, 1), (71, .if_icmp .le 7, 3), (74, .iconst 1, 1), (75, .goto 4, 3), (78, .iconst 0, 1), (79, .iload 10, 2), (81, .iload_n 3, 1), (82, .if_icmp .le 7, 3), (85, .iconst 1, 1), (86, .goto 4, 3), (89, .iconst 0, 1), (90, .if_icmp .ne 6, 3), (93, .goto 58, 3), (96, .iload 9, 2), (98, .iload 7, 2), (100, .isub, 1), (101, .iload_n 3, 1), (102, .iload 8, 2), (104, .isub, 1), (105, .imul, 1), (106, .iload_n 2, 1), (107, .iload 7, 2), (109, .isub, 1), (110, .iload 10, 2), (112, .iload 8, 2), (114, .isub, 1), (115, .imul, 1), (116, .isub, 1), (117, .istore 11, 2), (119, .iload 10, 2), (121, .iload 8, 2), (123, .if_icmp .le 11, 3), (126, .iload 11, 2), (128, .ifCond .le 23, 3), (131, .goto 8, 3), (134, .iload 11, 2), (136, .ifCond .ge 15, 3), (139, .iload 5, 2), (141, .ifCond .ne 7, 3), (144, .iconst 1, 1), (145, .goto 4, 3), (148, .iconst 0, 1), (149, .istore 5, 2), (151, .iinc 6 1, 3), (154, .goto (-148), 3), (157, .iload 5, 2), (159, .ireturn, 1)]
theorem tk_X10_encloses : ∀ q ∈ tb_X10_encloses, decode cX10_encloses q.1 = .ok q.2 := by decide +kernel
theorem dc_X10_encloses (k : Nat) {pc n : Nat} {i : Instr} (h : tb_X10_encloses[k]? = some (pc, i, n)) : decode cX10_encloses pc = .ok (i, n) := tk_X10_encloses (pc, i, n) (List.mem_of_getElem? h)
abbrev mX10_encloses : e_M := (yX10_encloses, cX10_encloses, 12, some (.boolean), [])
theorem ok_X10_encloses : e_mok mX10_encloses 4 := ⟨q1872, q119, by decide +kernel, fun sig h => by cases h; rfl⟩
def lp_X10_encloses_6 (F : Nat) (h : e_H) (a0 : Nat) (a1 : Int32) (a2 : Int32) (a3 : Int32) (a4 : Int32) : Nat → Int32 → Int32 → Option (Int32)
  | 0, _, _ => none
  | n + 1, x5_6, x6_6 =>
    Option.bind (e_is h a0 8) (fun _ =>
    Option.bind (f_X10_corners h a0 a1) (fun x10 =>
    if x10 ≤ x6_6 then
      some x5_6
    else
      Option.bind (f_X10_x h a0 a1 x6_6) (fun x22 =>
      Option.bind (some (a4 * x22)) (fun x26 =>
      Option.bind (f_X10_y h a0 a1 x6_6) (fun x34 =>
      Option.bind (some (a4 * x34)) (fun x38 =>
      Option.bind (f_X10_x h a0 a1 (x6_6 + 1)) (fun x48 =>
      Option.bind (some (a4 * x48)) (fun x52 =>
      Option.bind (f_X10_y h a0 a1 (x6_6 + 1)) (fun x62 =>
      Option.bind (some (a4 * x62)) (fun x66 =>
      Option.bind (
          if x38 ≤ a3 then
            some 0
          else
            some 1
        : Option (Int32)) (fun s79_2 =>
      Option.bind (
          if x66 ≤ a3 then
            some 0
          else
            some 1
        : Option (Int32)) (fun s90_3 =>
      Option.bind (
          if s79_2 = s90_3 then
            some x5_6
          else
            Option.bind (some (((x52 - x26) * (a3 - x38)) - ((a2 - x26) * (x66 - x38)))) (fun x117 =>
            e_bE (
                if x66 ≤ x38 then
                  if 0 ≤ x117 then
                    some (.error x5_6)
                  else
                    some (.ok ())
                else
                  if x117 ≤ 0 then
                    some (.error x5_6)
                  else
                    some (.ok ())
              : Option (Except Int32 Unit)) (fun _ =>
            Option.bind (
                if x5_6 = 0 then
                  some 1
                else
                  some 0
              : Option (Int32)) (fun s149_6 =>
            some s149_6)))
        : Option (Int32)) (fun x5_151_4 =>
      Option.bind (some (x6_6 + 1)) (fun x151 =>
      lp_X10_encloses_6 F h a0 a1 a2 a3 a4 n x5_151_4 x151))))))))))))))
def f_X10_encloses (F : Nat) (h : e_H) (a0 : Nat) (a1 : Int32) (a2 : Int32) (a3 : Int32) (a4 : Int32) : Option Int32 :=
  Option.bind (
      lp_X10_encloses_6 F h a0 a1 a2 a3 a4 F 0 0
    : Option (Int32)) (fun x5_157_1 =>
  if x5_157_1 = 0 ∨ x5_157_1 = 1 then some x5_157_1 else none)
set_option maxHeartbeats 4000000 in
set_option maxRecDepth 100000 in
theorem ct_X10_encloses {l : Launch} {D : e_D} {B : Heap} {F : Nat} {d : Nat} {h : e_H} {a0 : Nat} {a1 : Int32} {a2 : Int32} {a3 : Int32} {a4 : Int32} {v : Int32} (hd : 4 ≤ d) (e : f_X10_encloses F h a0 a1 a2 a3 a4 = some v) : e_Run l D B d mX10_encloses [.ref a0, .int a1, .int a2, .int a3, .int a4] h (.ok (some (.int v)), h) := by
  refine e_start [some (.ref a0), some (.int a1), some (.int a2), some (.int a3), some (.int a4), none, none, none, none, none, none, none] (by decide) rfl rfl rfl (Nat.le_of_ble_eq_true rfl) (fun K hl0 hD0 hB0 hM hd0 hr => ?_)
  subst hl0 hD0 hB0 hd0
  have ho : (k_M K).1.cls = "PegBandsModel" := by rw [hM]; rfl
  have hT : (k_M K).2.2.2.1 = some (.boolean) := by rw [hM]
  refine (show Sx K cX10_encloses 0 [some (.ref a0), some (.int a1), some (.int a2), some (.int a3), some (.int a4), none, none, none, none, none, none, none] [] h (f_X10_encloses F h a0 a1 a2 a3 a4) (fun w => w = v) from ?_) _ e rfl
  clear e
  unfold f_X10_encloses
  refine S_iconst_ 0 (dc_X10_encloses 0 rfl) rfl ?_
  refine S_istore (L' := [some (.ref a0), some (.int a1), some (.int a2), some (.int a3), some (.int a4), some (.int 0), none, none, none, none, none, none]) (dc_X10_encloses 1 rfl) rfl ?_
  refine S_iconst_ 0 (dc_X10_encloses 2 rfl) rfl ?_
  refine S_istore (L' := [some (.ref a0), some (.int a1), some (.int a2), some (.int a3), some (.int a4), some (.int 0), some (.int 0), none, none, none, none, none]) (dc_X10_encloses 3 rfl) rfl ?_
  refine Sx.regK1 (pc2 := 157) (L2 := fun (x5_157_1 : Int32) => [none, none, none, none, none, some (.int x5_157_1), none, none, none, none, none, none]) (st2 := fun (x5_157_1 : Int32) => []) (h2 := fun (x5_157_1 : Int32) => h) ?_ (fun Q1 hK1 => ?_)
  · intro x5_157_1
    show Sx K cX10_encloses 157 [none, none, none, none, none, some (.int x5_157_1), none, none, none, none, none, none] [] h _ _
    refine S_iload (dc_X10_encloses 87 rfl) rfl ?_
    refine Sx.cond (fun c159 => ?_)
    exact S_iret (dc_X10_encloses 88 rfl) hT (e_narZ c159).1 (fun q => by cases q; exact hr)
  · have hK1 : ∀ (x5_157_1 : Int32), Sx K cX10_encloses 157 [none, none, none, none, none, some (.int x5_157_1), none, none, none, none, none, none] [] h (some x5_157_1) Q1 := hK1
    have ih1 : ∀ (n : Nat) (x5_6 : Int32) (x6_6 : Int32), Sx K cX10_encloses 6 [some (.ref a0), some (.int a1), some (.int a2), some (.int a3), some (.int a4), some (.int x5_6), some (.int x6_6), none, none, none, none, none] [] h (lp_X10_encloses_6 F h a0 a1 a2 a3 a4 n x5_6 x6_6) Q1 := by
      intro n
      induction n with
      | zero => intro x5_6 x6_6; exact Sx.none
      | succ n ih1 =>
        intro x5_6 x6_6
        rw [lp_X10_encloses_6.eq_2]
        refine S_iload (dc_X10_encloses 4 rfl) rfl ?_
        refine S_aload_n (dc_X10_encloses 5 rfl) rfl ?_
        refine S_iload_n (dc_X10_encloses 6 rfl) rfl ?_
        refine Sx.ask (fun _ i10 => ?_)
        refine S_roI (d := k_d K - 1) (e_callV (b := a0) (As := [.int a1]) (rest := [.int x6_6]) ok_X10_corners rfl (Nat.le_of_ble_eq_true rfl) (dc_X10_encloses 7 rfl) ho q1803 q1805 (show e_cl[8]? = some (RX10, TX10, 51) from rfl) (e_sel.of qs55) (e_is_of i10) rfl (Nat.le_of_ble_eq_true rfl)) (by omega) (fun _ e => ct_X10_corners (by omega) e) (fun x10 e10 => ?_)
        refine S_icmp_ge 157 (dc_X10_encloses 8 rfl) rfl (fun c13 => ?_) (fun c13 => ?_)
        · refine Sx.cut [false, false, false, false, false, true, false, true, true, true, true, true] ?_
          exact hK1 x5_6
        · refine S_iload (dc_X10_encloses 9 rfl) rfl ?_
          refine S_aload_n (dc_X10_encloses 10 rfl) rfl ?_
          refine S_iload_n (dc_X10_encloses 11 rfl) rfl ?_
          refine S_iload (dc_X10_encloses 12 rfl) rfl ?_
          refine S_roI (d := k_d K - 1) (e_callV (b := a0) (As := [.int a1, .int x6_6]) (rest := [.int a4]) ok_X10_x rfl (Nat.le_of_ble_eq_true rfl) (dc_X10_encloses 13 rfl) ho q1815 q1817 (show e_cl[8]? = some (RX10, TX10, 51) from rfl) (e_sel.of qs58) (e_is_of i10) rfl (Nat.le_of_ble_eq_true rfl)) (by omega) (fun _ e => ct_X10_x (by omega) e) (fun x22 e22 => ?_)
          refine S_imul (dc_X10_encloses 14 rfl) ?_
          refine Sx.nameI (fun x26 n26 => ?_)
          refine S_istore (L' := [some (.ref a0), some (.int a1), some (.int a2), some (.int a3), some (.int a4), some (.int x5_6), some (.int x6_6), some (.int x26), none, none, none, none]) (dc_X10_encloses 15 rfl) rfl ?_
          refine S_iload (dc_X10_encloses 16 rfl) rfl ?_
          refine S_aload_n (dc_X10_encloses 17 rfl) rfl ?_
          refine S_iload_n (dc_X10_encloses 18 rfl) rfl ?_
          refine S_iload (dc_X10_encloses 19 rfl) rfl ?_
          refine S_roI (d := k_d K - 1) (e_callV (b := a0) (As := [.int a1, .int x6_6]) (rest := [.int a4]) ok_X10_y rfl (Nat.le_of_ble_eq_true rfl) (dc_X10_encloses 20 rfl) ho q1819 q1821 (show e_cl[8]? = some (RX10, TX10, 51) from rfl) (e_sel.of qs59) (e_is_of i10) rfl (Nat.le_of_ble_eq_true rfl)) (by omega) (fun _ e => ct_X10_y (by omega) e) (fun x34 e34 => ?_)
          refine S_imul (dc_X10_encloses 21 rfl) ?_
          refine Sx.nameI (fun x38 n38 => ?_)
          refine S_istore (L' := [some (.ref a0), some (.int a1), some (.int a2), some (.int a3), some (.int a4), some (.int x5_6), some (.int x6_6), some (.int x26), some (.int x38), none, none, none]) (dc_X10_encloses 22 rfl) rfl ?_
          refine S_iload (dc_X10_encloses 23 rfl) rfl ?_
          refine S_aload_n (dc_X10_encloses 24 rfl) rfl ?_
          refine S_iload_n (dc_X10_encloses 25 rfl) rfl ?_
          refine S_iload (dc_X10_encloses 26 rfl) rfl ?_
          refine S_iconst_ 1 (dc_X10_encloses 27 rfl) rfl ?_
          refine S_iadd (dc_X10_encloses 28 rfl) ?_
          refine S_roI (d := k_d K - 1) (e_callV (b := a0) (As := [.int a1, .int (x6_6 + 1)]) (rest := [.int a4]) ok_X10_x rfl (Nat.le_of_ble_eq_true rfl) (dc_X10_encloses 29 rfl) ho q1815 q1817 (show e_cl[8]? = some (RX10, TX10, 51) from rfl) (e_sel.of qs58) (e_is_of i10) rfl (Nat.le_of_ble_eq_true rfl)) (by omega) (fun _ e => ct_X10_x (by omega) e) (fun x48 e48 => ?_)
          refine S_imul (dc_X10_encloses 30 rfl) ?_
          refine Sx.nameI (fun x52 n52 => ?_)
          refine S_istore (L' := [some (.ref a0), some (.int a1), some (.int a2), some (.int a3), some (.int a4), some (.int x5_6), some (.int x6_6), some (.int x26), some (.int x38), some (.int x52), none, none]) (dc_X10_encloses 31 rfl) rfl ?_
          refine S_iload (dc_X10_encloses 32 rfl) rfl ?_
          refine S_aload_n (dc_X10_encloses 33 rfl) rfl ?_
          refine S_iload_n (dc_X10_encloses 34 rfl) rfl ?_
          refine S_iload (dc_X10_encloses 35 rfl) rfl ?_
          refine S_iconst_ 1 (dc_X10_encloses 36 rfl) rfl ?_
          refine S_iadd (dc_X10_encloses 37 rfl) ?_
          refine S_roI (d := k_d K - 1) (e_callV (b := a0) (As := [.int a1, .int (x6_6 + 1)]) (rest := [.int a4]) ok_X10_y rfl (Nat.le_of_ble_eq_true rfl) (dc_X10_encloses 38 rfl) ho q1819 q1821 (show e_cl[8]? = some (RX10, TX10, 51) from rfl) (e_sel.of qs59) (e_is_of i10) rfl (Nat.le_of_ble_eq_true rfl)) (by omega) (fun _ e => ct_X10_y (by omega) e) (fun x62 e62 => ?_)
          refine S_imul (dc_X10_encloses 39 rfl) ?_
          refine Sx.nameI (fun x66 n66 => ?_)
          refine S_istore (L' := [some (.ref a0), some (.int a1), some (.int a2), some (.int a3), some (.int a4), some (.int x5_6), some (.int x6_6), some (.int x26), some (.int x38), some (.int x52), some (.int x66), none]) (dc_X10_encloses 40 rfl) rfl ?_
          refine S_iload (dc_X10_encloses 41 rfl) rfl ?_
          refine S_iload_n (dc_X10_encloses 42 rfl) rfl ?_
          refine Sx.regK1 (pc2 := 79) (L2 := fun (s79_2 : Int32) => [some (.ref a0), some (.int a1), some (.int a2), some (.int a3), some (.int a4), some (.int x5_6), some (.int x6_6), some (.int x26), some (.int x38), some (.int x52), some (.int x66), none]) (st2 := fun (s79_2 : Int32) => [.int s79_2]) (h2 := fun (s79_2 : Int32) => h) ?_ (fun Q2 hK2 => ?_)
          · intro s79_2
            show Sx K cX10_encloses 79 [some (.ref a0), some (.int a1), some (.int a2), some (.int a3), some (.int a4), some (.int x5_6), some (.int x6_6), some (.int x26), some (.int x38), some (.int x52), some (.int x66), none] [.int s79_2] h _ _
            refine S_iload (dc_X10_encloses 47 rfl) rfl ?_
            refine S_iload_n (dc_X10_encloses 48 rfl) rfl ?_
            refine Sx.regK1 (pc2 := 90) (L2 := fun (s90_3 : Int32) => [some (.ref a0), some (.int a1), some (.int a2), some (.int a3), some (.int a4), some (.int x5_6), some (.int x6_6), some (.int x26), some (.int x38), some (.int x52), some (.int x66), none]) (st2 := fun (s90_3 : Int32) => [.int s90_3, .int s79_2]) (h2 := fun (s90_3 : Int32) => h) ?_ (fun Q3 hK3 => ?_)
            · intro s90_3
              show Sx K cX10_encloses 90 [some (.ref a0), some (.int a1), some (.int a2), some (.int a3), some (.int a4), some (.int x5_6), some (.int x6_6), some (.int x26), some (.int x38), some (.int x52), some (.int x66), none] [.int s90_3, .int s79_2] h _ _
              refine Sx.regK1 (pc2 := 151) (L2 := fun (x5_151_4 : Int32) => [some (.ref a0), some (.int a1), some (.int a2), some (.int a3), some (.int a4), some (.int x5_151_4), some (.int x6_6), none, none, none, none, none]) (st2 := fun (x5_151_4 : Int32) => []) (h2 := fun (x5_151_4 : Int32) => h) ?_ (fun Q4 hK4 => ?_)
              · intro x5_151_4
                show Sx K cX10_encloses 151 [some (.ref a0), some (.int a1), some (.int a2), some (.int a3), some (.int a4), some (.int x5_151_4), some (.int x6_6), none, none, none, none, none] [] h _ _
                refine S_iincN 1 (L' := fun x151 => [some (.ref a0), some (.int a1), some (.int a2), some (.int a3), some (.int a4), some (.int x5_151_4), some (.int x151), none, none, none, none, none]) (dc_X10_encloses 85 rfl) rfl rfl (fun _ => rfl) (fun x151 n151 => ?_)
                refine S_goto 6 (dc_X10_encloses 86 rfl) rfl ?_
                exact ih1 x5_151_4 x151
              · have hK4 : ∀ (x5_151_4 : Int32), Sx K cX10_encloses 151 [some (.ref a0), some (.int a1), some (.int a2), some (.int a3), some (.int a4), some (.int x5_151_4), some (.int x6_6), none, none, none, none, none] [] h (some x5_151_4) Q4 := hK4
                refine S_icmp_ne 96 (dc_X10_encloses 53 rfl) rfl (fun c90 => ?_) (fun c90 => ?_)
                · refine S_iload (dc_X10_encloses 55 rfl) rfl ?_
                  refine S_iload (dc_X10_encloses 56 rfl) rfl ?_
                  refine S_isub (dc_X10_encloses 57 rfl) ?_
                  refine S_iload_n (dc_X10_encloses 58 rfl) rfl ?_
                  refine S_iload (dc_X10_encloses 59 rfl) rfl ?_
                  refine S_isub (dc_X10_encloses 60 rfl) ?_
                  refine S_imul (dc_X10_encloses 61 rfl) ?_
                  refine S_iload_n (dc_X10_encloses 62 rfl) rfl ?_
                  refine S_iload (dc_X10_encloses 63 rfl) rfl ?_
                  refine S_isub (dc_X10_encloses 64 rfl) ?_
                  refine S_iload (dc_X10_encloses 65 rfl) rfl ?_
                  refine S_iload (dc_X10_encloses 66 rfl) rfl ?_
                  refine S_isub (dc_X10_encloses 67 rfl) ?_
                  refine S_imul (dc_X10_encloses 68 rfl) ?_
                  refine S_isub (dc_X10_encloses 69 rfl) ?_
                  refine Sx.nameI (fun x117 n117 => ?_)
                  refine S_istore (L' := [some (.ref a0), some (.int a1), some (.int a2), some (.int a3), some (.int a4), some (.int x5_6), some (.int x6_6), some (.int x26), some (.int x38), some (.int x52), some (.int x66), some (.int x117)]) (dc_X10_encloses 70 rfl) rfl ?_
                  refine S_iload (dc_X10_encloses 71 rfl) rfl ?_
                  refine S_iload (dc_X10_encloses 72 rfl) rfl ?_
                  refine Sx.regKE0 (pc2 := 139) (L2 := [some (.ref a0), some (.int a1), some (.int a2), some (.int a3), some (.int a4), some (.int x5_6), some (.int x6_6), none, none, none, none, none]) (st2 := []) (h2 := h) ?_ (fun Q5 hK5 hE5 => ?_)
                  · skip
                    refine S_iload (dc_X10_encloses 79 rfl) rfl ?_
                    refine Sx.regK1 (pc2 := 149) (L2 := fun (s149_6 : Int32) => [some (.ref a0), some (.int a1), some (.int a2), some (.int a3), some (.int a4), none, some (.int x6_6), none, none, none, none, none]) (st2 := fun (s149_6 : Int32) => [.int s149_6]) (h2 := fun (s149_6 : Int32) => h) ?_ (fun Q6 hK6 => ?_)
                    · intro s149_6
                      show Sx K cX10_encloses 149 [some (.ref a0), some (.int a1), some (.int a2), some (.int a3), some (.int a4), none, some (.int x6_6), none, none, none, none, none] [.int s149_6] h _ _
                      refine S_istore (L' := [some (.ref a0), some (.int a1), some (.int a2), some (.int a3), some (.int a4), some (.int s149_6), some (.int x6_6), none, none, none, none, none]) (dc_X10_encloses 84 rfl) rfl ?_
                      exact hK4 s149_6
                    · have hK6 : ∀ (s149_6 : Int32), Sx K cX10_encloses 149 [some (.ref a0), some (.int a1), some (.int a2), some (.int a3), some (.int a4), none, some (.int x6_6), none, none, none, none, none] [.int s149_6] h (some s149_6) Q6 := hK6
                      refine S_if_ne 148 (dc_X10_encloses 80 rfl) rfl (fun c141 => ?_) (fun c141 => ?_)
                      · refine S_iconst_ 0 (dc_X10_encloses 83 rfl) rfl ?_
                        refine Sx.cut [true, true, true, true, true, false, true, true, true, true, true, true] ?_
                        exact hK6 0
                      · refine S_iconst_ 1 (dc_X10_encloses 81 rfl) rfl ?_
                        refine S_goto 149 (dc_X10_encloses 82 rfl) rfl ?_
                        refine Sx.cut [true, true, true, true, true, false, true, true, true, true, true, true] ?_
                        exact hK6 1
                  · have hK5 : Sx K cX10_encloses 139 [some (.ref a0), some (.int a1), some (.int a2), some (.int a3), some (.int a4), some (.int x5_6), some (.int x6_6), none, none, none, none, none] [] h (some (.ok ())) Q5 := hK5
                    refine S_icmp_le 134 (dc_X10_encloses 73 rfl) rfl (fun c123 => ?_) (fun c123 => ?_)
                    · refine S_iload (dc_X10_encloses 77 rfl) rfl ?_
                      refine S_if_ge 151 (dc_X10_encloses 78 rfl) rfl (fun c136 => ?_) (fun c136 => ?_)
                      · refine Sx.cut [true, true, true, true, true, true, true, false, false, false, false, false] ?_
                        refine Sx.err hE5 ?_
                        exact hK4 x5_6
                      · refine Sx.cut [true, true, true, true, true, true, true, false, false, false, false, false] ?_
                        exact hK5
                    · refine S_iload (dc_X10_encloses 74 rfl) rfl ?_
                      refine S_if_le 151 (dc_X10_encloses 75 rfl) rfl (fun c128 => ?_) (fun c128 => ?_)
                      · refine Sx.cut [true, true, true, true, true, true, true, false, false, false, false, false] ?_
                        refine Sx.err hE5 ?_
                        exact hK4 x5_6
                      · refine S_goto 139 (dc_X10_encloses 76 rfl) rfl ?_
                        refine Sx.cut [true, true, true, true, true, true, true, false, false, false, false, false] ?_
                        exact hK5
                · refine S_goto 151 (dc_X10_encloses 54 rfl) rfl ?_
                  refine Sx.cut [true, true, true, true, true, true, true, false, false, false, false, true] ?_
                  exact hK4 x5_6
            · have hK3 : ∀ (s90_3 : Int32), Sx K cX10_encloses 90 [some (.ref a0), some (.int a1), some (.int a2), some (.int a3), some (.int a4), some (.int x5_6), some (.int x6_6), some (.int x26), some (.int x38), some (.int x52), some (.int x66), none] [.int s90_3, .int s79_2] h (some s90_3) Q3 := hK3
              refine S_icmp_le 89 (dc_X10_encloses 49 rfl) rfl (fun c82 => ?_) (fun c82 => ?_)
              · refine S_iconst_ 0 (dc_X10_encloses 52 rfl) rfl ?_
                exact hK3 0
              · refine S_iconst_ 1 (dc_X10_encloses 50 rfl) rfl ?_
                refine S_goto 90 (dc_X10_encloses 51 rfl) rfl ?_
                exact hK3 1
          · have hK2 : ∀ (s79_2 : Int32), Sx K cX10_encloses 79 [some (.ref a0), some (.int a1), some (.int a2), some (.int a3), some (.int a4), some (.int x5_6), some (.int x6_6), some (.int x26), some (.int x38), some (.int x52), some (.int x66), none] [.int s79_2] h (some s79_2) Q2 := hK2
            refine S_icmp_le 78 (dc_X10_encloses 43 rfl) rfl (fun c71 => ?_) (fun c71 => ?_)
            · refine S_iconst_ 0 (dc_X10_encloses 46 rfl) rfl ?_
              exact hK2 0
            · refine S_iconst_ 1 (dc_X10_encloses 44 rfl) rfl ?_
              refine S_goto 79 (dc_X10_encloses 45 rfl) rfl ?_
              exact hK2 1
    exact ih1 F 0 0
abbrev cX10_isWithin : ByteArray := prog_18_method_68_code
def yX10_isWithin : MethodName := ⟨"PegBandsModel", "isWithin", "(III)Z"⟩
def tb_X10_isWithin : List (Nat × Instr × Nat) := [(0, .aload_n 0, 1), (1, .iload_n 1, 1), (2, .iload_n 2, 1), (3, .iload_n 3, 1), (4, .invokevirtual 323, 3), (7, .ifCond .ne 18, 3), (10, .aload_n 0, 1), (11, .iload_n 1, 1), (12, .iload_n 2, 1), (13, .iload_n 3, 1), (14, .iconst 1, 1), (15, .invokevirtual 326, 3), (18, .ifCond .eq 7, 3), (21, .iconst 1, 1), (22, .goto 4, 3), (25, .iconst 0, 1), (26, .ireturn, 1)]
theorem tk_X10_isWithin : ∀ q ∈ tb_X10_isWithin, decode cX10_isWithin q.1 = .ok q.2 := by decide +kernel
theorem dc_X10_isWithin (k : Nat) {pc n : Nat} {i : Instr} (h : tb_X10_isWithin[k]? = some (pc, i, n)) : decode cX10_isWithin pc = .ok (i, n) := tk_X10_isWithin (pc, i, n) (List.mem_of_getElem? h)
abbrev mX10_isWithin : e_M := (yX10_isWithin, cX10_isWithin, 4, some (.boolean), [])
theorem ok_X10_isWithin : e_mok mX10_isWithin 3 := ⟨q1864, q119, by decide +kernel, fun sig h => by cases h; rfl⟩
def f_X10_isWithin (F : Nat) (h : e_H) (a0 : Nat) (a1 : Int32) (a2 : Int32) (a3 : Int32) : Option Int32 :=
  Option.bind (e_is h a0 8) (fun _ =>
  Option.bind (f_X10_isOn F h a0 a1 a2 a3) (fun x4 =>
  if x4 = 0 then
    Option.bind (f_X10_encloses F h a0 a1 a2 a3 1) (fun x15 =>
    if x15 = 0 then
      some 0
    else
      some 1)
  else
    some 0))
set_option maxHeartbeats 4000000 in
set_option maxRecDepth 100000 in
theorem ct_X10_isWithin {l : Launch} {D : e_D} {B : Heap} {F : Nat} {d : Nat} {h : e_H} {a0 : Nat} {a1 : Int32} {a2 : Int32} {a3 : Int32} {v : Int32} (hd : 5 ≤ d) (e : f_X10_isWithin F h a0 a1 a2 a3 = some v) : e_Run l D B d mX10_isWithin [.ref a0, .int a1, .int a2, .int a3] h (.ok (some (.int v)), h) := by
  refine e_start [some (.ref a0), some (.int a1), some (.int a2), some (.int a3)] (by decide) rfl rfl rfl (Nat.le_of_ble_eq_true rfl) (fun K hl0 hD0 hB0 hM hd0 hr => ?_)
  subst hl0 hD0 hB0 hd0
  have ho : (k_M K).1.cls = "PegBandsModel" := by rw [hM]; rfl
  have hT : (k_M K).2.2.2.1 = some (.boolean) := by rw [hM]
  refine (show Sx K cX10_isWithin 0 [some (.ref a0), some (.int a1), some (.int a2), some (.int a3)] [] h (f_X10_isWithin F h a0 a1 a2 a3) (fun w => w = v) from ?_) _ e rfl
  clear e
  unfold f_X10_isWithin
  refine S_aload_n (dc_X10_isWithin 0 rfl) rfl ?_
  refine S_iload_n (dc_X10_isWithin 1 rfl) rfl ?_
  refine S_iload_n (dc_X10_isWithin 2 rfl) rfl ?_
  refine S_iload_n (dc_X10_isWithin 3 rfl) rfl ?_
  refine Sx.ask (fun _ i4 => ?_)
  refine S_roI (d := k_d K - 1) (e_callV (b := a0) (As := [.int a1, .int a2, .int a3]) (rest := []) ok_X10_isOn rfl (Nat.le_of_ble_eq_true rfl) (dc_X10_isWithin 4 rfl) ho q1865 q1867 (show e_cl[8]? = some (RX10, TX10, 51) from rfl) (e_sel.of qs66) (e_is_of i4) rfl (Nat.le_of_ble_eq_true rfl)) (by omega) (fun _ e => ct_X10_isOn (by omega) e) (fun x4 e4 => ?_)
  refine S_if_ne 25 (dc_X10_isWithin 5 rfl) rfl (fun c7 => ?_) (fun c7 => ?_)
  · refine S_iconst_ 0 (dc_X10_isWithin 15 rfl) rfl ?_
    exact S_iret (dc_X10_isWithin 16 rfl) hT rfl (fun q => by cases q; exact hr)
  · refine S_aload_n (dc_X10_isWithin 6 rfl) rfl ?_
    refine S_iload_n (dc_X10_isWithin 7 rfl) rfl ?_
    refine S_iload_n (dc_X10_isWithin 8 rfl) rfl ?_
    refine S_iload_n (dc_X10_isWithin 9 rfl) rfl ?_
    refine S_iconst_ 1 (dc_X10_isWithin 10 rfl) rfl ?_
    refine S_roI (d := k_d K - 1) (e_callV (b := a0) (As := [.int a1, .int a2, .int a3, .int 1]) (rest := []) ok_X10_encloses rfl (Nat.le_of_ble_eq_true rfl) (dc_X10_isWithin 11 rfl) ho q1869 q1871 (show e_cl[8]? = some (RX10, TX10, 51) from rfl) (e_sel.of qs67) (e_is_of i4) rfl (Nat.le_of_ble_eq_true rfl)) (by omega) (fun _ e => ct_X10_encloses (by omega) e) (fun x15 e15 => ?_)
    refine S_if_eq 25 (dc_X10_isWithin 12 rfl) rfl (fun c18 => ?_) (fun c18 => ?_)
    · refine S_iconst_ 0 (dc_X10_isWithin 15 rfl) rfl ?_
      exact S_iret (dc_X10_isWithin 16 rfl) hT rfl (fun q => by cases q; exact hr)
    · refine S_iconst_ 1 (dc_X10_isWithin 13 rfl) rfl ?_
      refine S_goto 26 (dc_X10_isWithin 14 rfl) rfl ?_
      exact S_iret (dc_X10_isWithin 16 rfl) hT rfl (fun q => by cases q; exact hr)
abbrev cX10_over : ByteArray := prog_18_method_69_code
def yX10_over : MethodName := ⟨"PegBandsModel", "over", "(II)I"⟩
def tb_X10_over : List (Nat × Instr × Nat) := [(0, .aload_n 0, 1), (1, .iconst 0, 1), (2, .putfield 94, 3), (5, .aload_n 0, 1), (6, .iload_n 1, 1), (7, .invokevirtual 282, 3), (10, .ifCond .eq 12, 3), (13, .iload_n 2, 1), (14, .iconst 0, 1), (15, .iconst 1, 1), (16, .invokestatic 168, 3), (19, .ifCond .ne 5, 3), (22, .iconst (-1), 1), (23, .ireturn, 1), (24, .iconst 0, 1), (25, .istore_n 3, 1), (26, .iconst 0, 1), (27, .istore 4, 2), (29, .iload 4, 2), (31, .aload_n 0, 1), (32, .invokevirtual 276, 3), (35, .if_icmp .ge 57, 3), (38, .iload_n 2, 1), (39, .ifCond .ne 23, 3), (42, .aload_n 0, 1), (43, .iload 4, 2), (45, .iload_n 1, 1), (46, .bipush 10, 2), (48, .irem, 1), (49, .iload_n 1, 1), (50, .bipush 10, 2), (52, .idiv, 1), (53, .invokevirtual 330, 3), (56, .ifCond .eq 30, 3), (59, .goto 20, 3), (62, .aload_n 0, 1), (63, .iload 4, 2), (65, .iload_n 1, 1), (66, .bipush 10, 2), (68, .irem, 1), (69, .iload_n 1, 1), (70, .bipush 10, 2), (72, .idiv, 1), (73, .invokevirtual 323, 3), (76, .ifCond .eq 10, 3), (79, .iload_n 3, 1), (80, .iconst 1, 1), (81, .iload 4, 2), (83, .ishl, 1), (84, .ior, 1), (85, .istore_n 3, 1), (86, .iinc 4 1, 3), (89, .goto (-60), 3), (92, .iload_n 3, 1), (93, .ireturn, 1)]
theorem tk_X10_over : ∀ q ∈ tb_X10_over, decode cX10_over q.1 = .ok q.2 := by decide +kernel
theorem dc_X10_over (k : Nat) {pc n : Nat} {i : Instr} (h : tb_X10_over[k]? = some (pc, i, n)) : decode cX10_over pc = .ok (i, n) := tk_X10_over (pc, i, n) (List.mem_of_getElem? h)
abbrev mX10_over : e_M := (yX10_over, cX10_over, 5, some (.int), [])
theorem ok_X10_over : e_mok mX10_over 2 := ⟨q1860, q119, by decide +kernel, fun sig h => by cases h; rfl⟩
def lp_X10_over_29 (F : Nat) (h2 : e_H) (a0 : Nat) (a1 : Int32) (a2 : Int32) : Nat → Int32 → Int32 → Option (Int32)
  | 0, _, _ => none
  | n + 1, x3_29, x4_29 =>
    Option.bind (f_X10_bands h2 a0) (fun x32 =>
    if x32 ≤ x4_29 then
      some x3_29
    else
      Option.bind (
          e_bE (
              if a2 = 0 then
                Option.bind (f_X10_isWithin F h2 a0 x4_29 (a1 - a1 / 10 * 10) (a1 / 10)) (fun x53 =>
                if x53 = 0 then
                  some (.error x3_29)
                else
                  some (.ok ()))
              else
                Option.bind (f_X10_isOn F h2 a0 x4_29 (a1 - a1 / 10 * 10) (a1 / 10)) (fun x73 =>
                if x73 = 0 then
                  some (.error x3_29)
                else
                  some (.ok ()))
            : Option (Except Int32 Unit)) (fun _ =>
          Option.bind (some (x3_29 ||| (1 <<< (x4_29 &&& 31)))) (fun x85 =>
          some x85))
        : Option (Int32)) (fun x3_86_2 =>
      Option.bind (some (x4_29 + 1)) (fun x86 =>
      lp_X10_over_29 F h2 a0 a1 a2 n x3_86_2 x86)))
def f_X10_over (F : Nat) (h : e_H) (a0 : Nat) (a1 : Int32) (a2 : Int32) : Option (Int32 × e_H) :=
  Option.bind (e_gI h a0 8 0 0) (fun h2 =>
  Option.bind (e_is h2 a0 8) (fun _ =>
  Option.bind (f_X10_isAt h2 a0 a1) (fun x7 =>
  if x7 = 0 then
    some ((-1), h2)
  else
    Option.bind (f_X10_isIn a2 0 1) (fun x16 =>
    if x16 = 0 then
      some ((-1), h2)
    else
      Option.bind (
          lp_X10_over_29 F h2 a0 a1 a2 F 0 0
        : Option (Int32)) (fun x3_92_1 =>
      some (x3_92_1, h2))))))
set_option maxHeartbeats 4000000 in
set_option maxRecDepth 100000 in
theorem ct_X10_over {l : Launch} {D : e_D} {B : Heap} {F : Nat} {d : Nat} {h : e_H} {a0 : Nat} {a1 : Int32} {a2 : Int32} {v : Int32} {h1 : e_H} (hd : 6 ≤ d) (e : f_X10_over F h a0 a1 a2 = some (v, h1)) : e_Run l D B d mX10_over [.ref a0, .int a1, .int a2] h (.ok (some (.int v)), h1) := by
  refine e_start [some (.ref a0), some (.int a1), some (.int a2), none, none] (by decide) rfl rfl rfl (Nat.le_of_ble_eq_true rfl) (fun K hl0 hD0 hB0 hM hd0 hr => ?_)
  subst hl0 hD0 hB0 hd0
  have ho : (k_M K).1.cls = "PegBandsModel" := by rw [hM]; rfl
  have hT : (k_M K).2.2.2.1 = some (.int) := by rw [hM]
  refine (show Sx K cX10_over 0 [some (.ref a0), some (.int a1), some (.int a2), none, none] [] h (f_X10_over F h a0 a1 a2) (fun w => w = (v, h1)) from ?_) _ e rfl
  clear e
  unfold f_X10_over
  refine S_aload_n (dc_X10_over 0 rfl) rfl ?_
  refine S_iconst_ 0 (dc_X10_over 1 rfl) rfl ?_
  refine S_putI (dc_X10_over 2 rfl) ho fl_X10_94_8_0 (fun _ _ => rfl) (Or.inl rfl) rfl rfl (fun h2 e2 => ?_)
  refine S_aload_n (dc_X10_over 3 rfl) rfl ?_
  refine S_iload_n (dc_X10_over 4 rfl) rfl ?_
  refine Sx.ask (fun _ i7 => ?_)
  refine S_roI (d := k_d K - 1) (e_callV (b := a0) (As := [.int a1]) (rest := []) ok_X10_isAt rfl (Nat.le_of_ble_eq_true rfl) (dc_X10_over 5 rfl) ho q1783 q1785 (show e_cl[8]? = some (RX10, TX10, 51) from rfl) (e_sel.of qs51) (e_is_of i7) rfl (Nat.le_of_ble_eq_true rfl)) (by omega) (fun _ e => ct_X10_isAt (by omega) e) (fun x7 e7 => ?_)
  refine S_if_eq 22 (dc_X10_over 6 rfl) rfl (fun c10 => ?_) (fun c10 => ?_)
  · refine S_iconst_ (-1) (dc_X10_over 12 rfl) rfl ?_
    exact S_iret (dc_X10_over 13 rfl) hT rfl (e_rqI hr)
  · refine S_iload_n (dc_X10_over 7 rfl) rfl ?_
    refine S_iconst_ 0 (dc_X10_over 8 rfl) rfl ?_
    refine S_iconst_ 1 (dc_X10_over 9 rfl) rfl ?_
    refine S_roI (d := k_d K - 1) (e_callS (As := [.int a2, .int 0, .int 1]) (rest := []) ok_X10_isIn rfl (Nat.le_of_ble_eq_true rfl) (dc_X10_over 10 rfl) ho q1699 q1700 rfl (Nat.le_of_ble_eq_true rfl)) (by omega) (fun _ e => ct_X10_isIn (by omega) e) (fun x16 e16 => ?_)
    refine S_if_ne 24 (dc_X10_over 11 rfl) rfl (fun c19 => ?_) (fun c19 => ?_)
    · refine S_iconst_ 0 (dc_X10_over 14 rfl) rfl ?_
      refine S_istore_n (L' := [some (.ref a0), some (.int a1), some (.int a2), some (.int 0), none]) (dc_X10_over 15 rfl) rfl ?_
      refine S_iconst_ 0 (dc_X10_over 16 rfl) rfl ?_
      refine S_istore (L' := [some (.ref a0), some (.int a1), some (.int a2), some (.int 0), some (.int 0)]) (dc_X10_over 17 rfl) rfl ?_
      refine Sx.regK1 (pc2 := 92) (L2 := fun (x3_92_1 : Int32) => [none, none, none, some (.int x3_92_1), none]) (st2 := fun (x3_92_1 : Int32) => []) (h2 := fun (x3_92_1 : Int32) => h2) ?_ (fun Q1 hK1 => ?_)
      · intro x3_92_1
        show Sx K cX10_over 92 [none, none, none, some (.int x3_92_1), none] [] h2 _ _
        refine S_iload_n (dc_X10_over 53 rfl) rfl ?_
        exact S_iret (dc_X10_over 54 rfl) hT rfl (e_rqI hr)
      · have hK1 : ∀ (x3_92_1 : Int32), Sx K cX10_over 92 [none, none, none, some (.int x3_92_1), none] [] h2 (some x3_92_1) Q1 := hK1
        have ih1 : ∀ (n : Nat) (x3_29 : Int32) (x4_29 : Int32), Sx K cX10_over 29 [some (.ref a0), some (.int a1), some (.int a2), some (.int x3_29), some (.int x4_29)] [] h2 (lp_X10_over_29 F h2 a0 a1 a2 n x3_29 x4_29) Q1 := by
          intro n
          induction n with
          | zero => intro x3_29 x4_29; exact Sx.none
          | succ n ih1 =>
            intro x3_29 x4_29
            rw [lp_X10_over_29.eq_2]
            refine S_iload (dc_X10_over 18 rfl) rfl ?_
            refine S_aload_n (dc_X10_over 19 rfl) rfl ?_
            refine S_roI (d := k_d K - 1) (e_callV (b := a0) (As := []) (rest := [.int x4_29]) ok_X10_bands rfl (Nat.le_of_ble_eq_true rfl) (dc_X10_over 20 rfl) ho q1795 q1797 (show e_cl[8]? = some (RX10, TX10, 51) from rfl) (e_sel.of qs53) (e_is_of i7) rfl (Nat.le_of_ble_eq_true rfl)) (by omega) (fun _ e => ct_X10_bands (by omega) e) (fun x32 e32 => ?_)
            refine S_icmp_ge 92 (dc_X10_over 21 rfl) rfl (fun c35 => ?_) (fun c35 => ?_)
            · refine Sx.cut [false, false, false, true, false] ?_
              exact hK1 x3_29
            · refine S_iload_n (dc_X10_over 22 rfl) rfl ?_
              refine Sx.regK1 (pc2 := 86) (L2 := fun (x3_86_2 : Int32) => [some (.ref a0), some (.int a1), some (.int a2), some (.int x3_86_2), some (.int x4_29)]) (st2 := fun (x3_86_2 : Int32) => []) (h2 := fun (x3_86_2 : Int32) => h2) ?_ (fun Q2 hK2 => ?_)
              · intro x3_86_2
                show Sx K cX10_over 86 [some (.ref a0), some (.int a1), some (.int a2), some (.int x3_86_2), some (.int x4_29)] [] h2 _ _
                refine S_iincN 1 (L' := fun x86 => [some (.ref a0), some (.int a1), some (.int a2), some (.int x3_86_2), some (.int x86)]) (dc_X10_over 51 rfl) rfl rfl (fun _ => rfl) (fun x86 n86 => ?_)
                refine S_goto 29 (dc_X10_over 52 rfl) rfl ?_
                exact ih1 x3_86_2 x86
              · have hK2 : ∀ (x3_86_2 : Int32), Sx K cX10_over 86 [some (.ref a0), some (.int a1), some (.int a2), some (.int x3_86_2), some (.int x4_29)] [] h2 (some x3_86_2) Q2 := hK2
                refine Sx.regKE0 (pc2 := 79) (L2 := [some (.ref a0), some (.int a1), some (.int a2), some (.int x3_29), some (.int x4_29)]) (st2 := []) (h2 := h2) ?_ (fun Q3 hK3 hE3 => ?_)
                · skip
                  refine S_iload_n (dc_X10_over 45 rfl) rfl ?_
                  refine S_iconst_ 1 (dc_X10_over 46 rfl) rfl ?_
                  refine S_iload (dc_X10_over 47 rfl) rfl ?_
                  refine S_ishl (dc_X10_over 48 rfl) ?_
                  refine S_ior (dc_X10_over 49 rfl) ?_
                  refine Sx.nameI (fun x85 n85 => ?_)
                  refine S_istore_n (L' := [some (.ref a0), some (.int a1), some (.int a2), some (.int x85), some (.int x4_29)]) (dc_X10_over 50 rfl) rfl ?_
                  exact hK2 x85
                · have hK3 : Sx K cX10_over 79 [some (.ref a0), some (.int a1), some (.int a2), some (.int x3_29), some (.int x4_29)] [] h2 (some (.ok ())) Q3 := hK3
                  refine S_if_ne 62 (dc_X10_over 23 rfl) rfl (fun c39 => ?_) (fun c39 => ?_)
                  · refine S_aload_n (dc_X10_over 35 rfl) rfl ?_
                    refine S_iload (dc_X10_over 36 rfl) rfl ?_
                    refine S_iload_n (dc_X10_over 37 rfl) rfl ?_
                    refine S_bipush_ 10 (dc_X10_over 38 rfl) rfl ?_
                    refine S_irem (dc_X10_over 39 rfl) (by decide) ?_
                    refine S_iload_n (dc_X10_over 40 rfl) rfl ?_
                    refine S_bipush_ 10 (dc_X10_over 41 rfl) rfl ?_
                    refine S_idiv (dc_X10_over 42 rfl) (by decide) ?_
                    refine S_roI (d := k_d K - 1) (e_callV (b := a0) (As := [.int x4_29, .int (a1 - a1 / 10 * 10), .int (a1 / 10)]) (rest := []) ok_X10_isOn rfl (Nat.le_of_ble_eq_true rfl) (dc_X10_over 43 rfl) ho q1865 q1867 (show e_cl[8]? = some (RX10, TX10, 51) from rfl) (e_sel.of qs66) (e_is_of i7) rfl (Nat.le_of_ble_eq_true rfl)) (by omega) (fun _ e => ct_X10_isOn (by omega) e) (fun x73 e73 => ?_)
                    refine S_if_eq 86 (dc_X10_over 44 rfl) rfl (fun c76 => ?_) (fun c76 => ?_)
                    · refine Sx.err hE3 ?_
                      exact hK2 x3_29
                    · exact hK3
                  · refine S_aload_n (dc_X10_over 24 rfl) rfl ?_
                    refine S_iload (dc_X10_over 25 rfl) rfl ?_
                    refine S_iload_n (dc_X10_over 26 rfl) rfl ?_
                    refine S_bipush_ 10 (dc_X10_over 27 rfl) rfl ?_
                    refine S_irem (dc_X10_over 28 rfl) (by decide) ?_
                    refine S_iload_n (dc_X10_over 29 rfl) rfl ?_
                    refine S_bipush_ 10 (dc_X10_over 30 rfl) rfl ?_
                    refine S_idiv (dc_X10_over 31 rfl) (by decide) ?_
                    refine S_roI (d := k_d K - 1) (e_callV (b := a0) (As := [.int x4_29, .int (a1 - a1 / 10 * 10), .int (a1 / 10)]) (rest := []) ok_X10_isWithin rfl (Nat.le_of_ble_eq_true rfl) (dc_X10_over 32 rfl) ho q1861 q1863 (show e_cl[8]? = some (RX10, TX10, 51) from rfl) (e_sel.of qs65) (e_is_of i7) rfl (Nat.le_of_ble_eq_true rfl)) (by omega) (fun _ e => ct_X10_isWithin (by omega) e) (fun x53 e53 => ?_)
                    refine S_if_eq 86 (dc_X10_over 33 rfl) rfl (fun c56 => ?_) (fun c56 => ?_)
                    · refine Sx.err hE3 ?_
                      exact hK2 x3_29
                    · refine S_goto 79 (dc_X10_over 34 rfl) rfl ?_
                      exact hK3
        exact ih1 F 0 0
    · refine S_iconst_ (-1) (dc_X10_over 12 rfl) rfl ?_
      exact S_iret (dc_X10_over 13 rfl) hT rfl (e_rqI hr)
abbrev cX10_cross : ByteArray := prog_18_method_70_code
def yX10_cross : MethodName := ⟨"PegBandsModel", "cross", "(III)I"⟩
def tb_X10_cross : List (Nat × Instr × Nat) := [(0, .aload_n 0, 1), (1, .iconst 0, 1), (2, .putfield 94, 3), (5, .aload_n 0, 1), (6, .iload_n 1, 1), (7, .invokevirtual 304, 3), (10, .ifCond .eq 37, 3), (13, .aload_n 0, 1), (14, .iload_n 2, 1), (15, .invokevirtual 304, 3), (18, .ifCond .eq 29, 3), (21, .iload_n 1, 1), (22, .iload_n 2, 1), (23, .if_icmp .eq 24, 3), (26, .iload_n 3, 1), (27, .iconst 0, 1), (28, .iconst 1, 1), (29, .invokestatic 168, 3), (32, .ifCond .eq 15, 3), (35, .aload_n 0, 1), (36, .iload_n 1, 1), (37, .iload_n 2, 1), (38, .iload_n 3, 1), (39, .iconst 1, 1), (40, .iadd, 1), (41, .invokevirtual 319, 3), (44, .goto 4, 3), (47, .iconst (-1), 1), (48, .ireturn, 1)]
theorem tk_X10_cross : ∀ q ∈ tb_X10_cross, decode cX10_cross q.1 = .ok q.2 := by decide +kernel
theorem dc_X10_cross (k : Nat) {pc n : Nat} {i : Instr} (h : tb_X10_cross[k]? = some (pc, i, n)) : decode cX10_cross pc = .ok (i, n) := tk_X10_cross (pc, i, n) (List.mem_of_getElem? h)
abbrev mX10_cross : e_M := (yX10_cross, cX10_cross, 4, some (.int), [])
theorem ok_X10_cross : e_mok mX10_cross 3 := ⟨q1876, q119, by decide +kernel, fun sig h => by cases h; rfl⟩
def f_X10_cross (F : Nat) (h : e_H) (a0 : Nat) (a1 : Int32) (a2 : Int32) (a3 : Int32) : Option (Int32 × e_H) :=
  Option.bind (e_gI h a0 8 0 0) (fun h2 =>
  Option.bind (e_is h2 a0 8) (fun _ =>
  Option.bind (f_X10_isBand h2 a0 a1) (fun x7 =>
  if x7 = 0 then
    some ((-1), h2)
  else
    Option.bind (f_X10_isBand h2 a0 a2) (fun x15 =>
    if x15 = 0 then
      some ((-1), h2)
    else
      if a1 = a2 then
        some ((-1), h2)
      else
        Option.bind (f_X10_isIn a3 0 1) (fun x29 =>
        if x29 = 0 then
          some ((-1), h2)
        else
          Option.bind (f_X10_crossings F h2 a0 a1 a2 (a3 + 1)) (fun x41 =>
          some (x41, h2)))))))
set_option maxHeartbeats 4000000 in
set_option maxRecDepth 100000 in
theorem ct_X10_cross {l : Launch} {D : e_D} {B : Heap} {F : Nat} {d : Nat} {h : e_H} {a0 : Nat} {a1 : Int32} {a2 : Int32} {a3 : Int32} {v : Int32} {h1 : e_H} (hd : 7 ≤ d) (e : f_X10_cross F h a0 a1 a2 a3 = some (v, h1)) : e_Run l D B d mX10_cross [.ref a0, .int a1, .int a2, .int a3] h (.ok (some (.int v)), h1) := by
  refine e_start [some (.ref a0), some (.int a1), some (.int a2), some (.int a3)] (by decide) rfl rfl rfl (Nat.le_of_ble_eq_true rfl) (fun K hl0 hD0 hB0 hM hd0 hr => ?_)
  subst hl0 hD0 hB0 hd0
  have ho : (k_M K).1.cls = "PegBandsModel" := by rw [hM]; rfl
  have hT : (k_M K).2.2.2.1 = some (.int) := by rw [hM]
  refine (show Sx K cX10_cross 0 [some (.ref a0), some (.int a1), some (.int a2), some (.int a3)] [] h (f_X10_cross F h a0 a1 a2 a3) (fun w => w = (v, h1)) from ?_) _ e rfl
  clear e
  unfold f_X10_cross
  refine S_aload_n (dc_X10_cross 0 rfl) rfl ?_
  refine S_iconst_ 0 (dc_X10_cross 1 rfl) rfl ?_
  refine S_putI (dc_X10_cross 2 rfl) ho fl_X10_94_8_0 (fun _ _ => rfl) (Or.inl rfl) rfl rfl (fun h2 e2 => ?_)
  refine S_aload_n (dc_X10_cross 3 rfl) rfl ?_
  refine S_iload_n (dc_X10_cross 4 rfl) rfl ?_
  refine Sx.ask (fun _ i7 => ?_)
  refine S_roI (d := k_d K - 1) (e_callV (b := a0) (As := [.int a1]) (rest := []) ok_X10_isBand rfl (Nat.le_of_ble_eq_true rfl) (dc_X10_cross 5 rfl) ho q1791 q1793 (show e_cl[8]? = some (RX10, TX10, 51) from rfl) (e_sel.of qs52) (e_is_of i7) rfl (Nat.le_of_ble_eq_true rfl)) (by omega) (fun _ e => ct_X10_isBand (by omega) e) (fun x7 e7 => ?_)
  refine S_if_eq 47 (dc_X10_cross 6 rfl) rfl (fun c10 => ?_) (fun c10 => ?_)
  · refine S_iconst_ (-1) (dc_X10_cross 27 rfl) rfl ?_
    exact S_iret (dc_X10_cross 28 rfl) hT rfl (e_rqI hr)
  · refine S_aload_n (dc_X10_cross 7 rfl) rfl ?_
    refine S_iload_n (dc_X10_cross 8 rfl) rfl ?_
    refine S_roI (d := k_d K - 1) (e_callV (b := a0) (As := [.int a2]) (rest := []) ok_X10_isBand rfl (Nat.le_of_ble_eq_true rfl) (dc_X10_cross 9 rfl) ho q1791 q1793 (show e_cl[8]? = some (RX10, TX10, 51) from rfl) (e_sel.of qs52) (e_is_of i7) rfl (Nat.le_of_ble_eq_true rfl)) (by omega) (fun _ e => ct_X10_isBand (by omega) e) (fun x15 e15 => ?_)
    refine S_if_eq 47 (dc_X10_cross 10 rfl) rfl (fun c18 => ?_) (fun c18 => ?_)
    · refine S_iconst_ (-1) (dc_X10_cross 27 rfl) rfl ?_
      exact S_iret (dc_X10_cross 28 rfl) hT rfl (e_rqI hr)
    · refine S_iload_n (dc_X10_cross 11 rfl) rfl ?_
      refine S_iload_n (dc_X10_cross 12 rfl) rfl ?_
      refine S_icmp_eq 47 (dc_X10_cross 13 rfl) rfl (fun c23 => ?_) (fun c23 => ?_)
      · refine S_iconst_ (-1) (dc_X10_cross 27 rfl) rfl ?_
        exact S_iret (dc_X10_cross 28 rfl) hT rfl (e_rqI hr)
      · refine S_iload_n (dc_X10_cross 14 rfl) rfl ?_
        refine S_iconst_ 0 (dc_X10_cross 15 rfl) rfl ?_
        refine S_iconst_ 1 (dc_X10_cross 16 rfl) rfl ?_
        refine S_roI (d := k_d K - 1) (e_callS (As := [.int a3, .int 0, .int 1]) (rest := []) ok_X10_isIn rfl (Nat.le_of_ble_eq_true rfl) (dc_X10_cross 17 rfl) ho q1699 q1700 rfl (Nat.le_of_ble_eq_true rfl)) (by omega) (fun _ e => ct_X10_isIn (by omega) e) (fun x29 e29 => ?_)
        refine S_if_eq 47 (dc_X10_cross 18 rfl) rfl (fun c32 => ?_) (fun c32 => ?_)
        · refine S_iconst_ (-1) (dc_X10_cross 27 rfl) rfl ?_
          exact S_iret (dc_X10_cross 28 rfl) hT rfl (e_rqI hr)
        · refine S_aload_n (dc_X10_cross 19 rfl) rfl ?_
          refine S_iload_n (dc_X10_cross 20 rfl) rfl ?_
          refine S_iload_n (dc_X10_cross 21 rfl) rfl ?_
          refine S_iload_n (dc_X10_cross 22 rfl) rfl ?_
          refine S_iconst_ 1 (dc_X10_cross 23 rfl) rfl ?_
          refine S_iadd (dc_X10_cross 24 rfl) ?_
          refine S_roI (d := k_d K - 1) (e_callV (b := a0) (As := [.int a1, .int a2, .int (a3 + 1)]) (rest := []) ok_X10_crossings rfl (Nat.le_of_ble_eq_true rfl) (dc_X10_cross 25 rfl) ho q1845 q1847 (show e_cl[8]? = some (RX10, TX10, 51) from rfl) (e_sel.of qs64) (e_is_of i7) rfl (Nat.le_of_ble_eq_true rfl)) (by omega) (fun _ e => ct_X10_crossings (by omega) e) (fun x41 e41 => ?_)
          refine S_goto 48 (dc_X10_cross 26 rfl) rfl ?_
          exact S_iret (dc_X10_cross 28 rfl) hT rfl (e_rqI hr)
abbrev cX10_liesIn : ByteArray := prog_18_method_71_code
def yX10_liesIn : MethodName := ⟨"PegBandsModel", "liesIn", "(II)Z"⟩
def tb_X10_liesIn : List (Nat × Instr × Nat) := [(0, .iload_n 1, 1), (1, .iload_n 2, 1), (2, .if_icmp .eq 39, 3), (5, .aload_n 0, 1), (6, .getfield 13, 3), (9, .iload_n 1, 1), (10, .iload_n 2, 1), (11, .invokestatic 232, 3), (14, .ifCond .ne 27, 3), (17, .aload_n 0, 1), (18, .iload_n 2, 1), (19, .aload_n 0, 1), (20, .iload_n 1, 1), (21, .iconst 0, 1), (22, .invokevirtual 285, 3), (25, .aload_n 0, 1), (26, .iload_n 1, 1), (27, .iconst 0, 1), (28, .invokevirtual 289, 3), (31, .invokevirtual 330, 3), (34, .ifCond .eq 7, 3), (37, .iconst 1, 1), (38, .goto 4, 3), (41, .iconst 0, 1), (42, .ireturn, 1)]
theorem tk_X10_liesIn : ∀ q ∈ tb_X10_liesIn, decode cX10_liesIn q.1 = .ok q.2 := by decide +kernel
theorem dc_X10_liesIn (k : Nat) {pc n : Nat} {i : Instr} (h : tb_X10_liesIn[k]? = some (pc, i, n)) : decode cX10_liesIn pc = .ok (i, n) := tk_X10_liesIn (pc, i, n) (List.mem_of_getElem? h)
abbrev mX10_liesIn : e_M := (yX10_liesIn, cX10_liesIn, 3, some (.boolean), [])
theorem ok_X10_liesIn : e_mok mX10_liesIn 2 := ⟨q1884, q119, by decide +kernel, fun sig h => by cases h; rfl⟩
def f_X10_liesIn (F : Nat) (h : e_H) (a0 : Nat) (a1 : Int32) (a2 : Int32) : Option Int32 :=
  if a1 = a2 then
    some 0
  else
    Option.bind (e_fA h a0 8 15) (fun x6 =>
    Option.bind (f_X10_meetsOther F h x6 a1 a2) (fun x11 =>
    if x11 = 0 then
      Option.bind (f_X10_x h a0 a1 0) (fun x22 =>
      Option.bind (f_X10_y h a0 a1 0) (fun x28 =>
      Option.bind (f_X10_isWithin F h a0 a2 x22 x28) (fun x31 =>
      if x31 = 0 then
        some 0
      else
        some 1)))
    else
      some 0))
set_option maxHeartbeats 4000000 in
set_option maxRecDepth 100000 in
theorem ct_X10_liesIn {l : Launch} {D : e_D} {B : Heap} {F : Nat} {d : Nat} {h : e_H} {a0 : Nat} {a1 : Int32} {a2 : Int32} {v : Int32} (hd : 7 ≤ d) (e : f_X10_liesIn F h a0 a1 a2 = some v) : e_Run l D B d mX10_liesIn [.ref a0, .int a1, .int a2] h (.ok (some (.int v)), h) := by
  refine e_start [some (.ref a0), some (.int a1), some (.int a2)] (by decide) rfl rfl rfl (Nat.le_of_ble_eq_true rfl) (fun K hl0 hD0 hB0 hM hd0 hr => ?_)
  subst hl0 hD0 hB0 hd0
  have ho : (k_M K).1.cls = "PegBandsModel" := by rw [hM]; rfl
  have hT : (k_M K).2.2.2.1 = some (.boolean) := by rw [hM]
  refine (show Sx K cX10_liesIn 0 [some (.ref a0), some (.int a1), some (.int a2)] [] h (f_X10_liesIn F h a0 a1 a2) (fun w => w = v) from ?_) _ e rfl
  clear e
  unfold f_X10_liesIn
  refine S_iload_n (dc_X10_liesIn 0 rfl) rfl ?_
  refine S_iload_n (dc_X10_liesIn 1 rfl) rfl ?_
  refine S_icmp_eq 41 (dc_X10_liesIn 2 rfl) rfl (fun c2 => ?_) (fun c2 => ?_)
  · refine S_iconst_ 0 (dc_X10_liesIn 23 rfl) rfl ?_
    exact S_iret (dc_X10_liesIn 24 rfl) hT rfl (fun q => by cases q; exact hr)
  · refine S_aload_n (dc_X10_liesIn 3 rfl) rfl ?_
    refine S_getA (dc_X10_liesIn 4 rfl) ho fl_X10_13_8_15 (fun _ _ => rfl) (fun x6 e6 => ?_)
    refine S_iload_n (dc_X10_liesIn 5 rfl) rfl ?_
    refine S_iload_n (dc_X10_liesIn 6 rfl) rfl ?_
    refine S_roI (d := k_d K - 1) (e_callS (As := [.ref x6, .int a1, .int a2]) (rest := []) ok_X10_meetsOther rfl (Nat.le_of_ble_eq_true rfl) (dc_X10_liesIn 7 rfl) ho q1768 q1769 rfl (Nat.le_of_ble_eq_true rfl)) (by omega) (fun _ e => ct_X10_meetsOther (by omega) e) (fun x11 e11 => ?_)
    refine S_if_ne 41 (dc_X10_liesIn 8 rfl) rfl (fun c14 => ?_) (fun c14 => ?_)
    · refine S_iconst_ 0 (dc_X10_liesIn 23 rfl) rfl ?_
      exact S_iret (dc_X10_liesIn 24 rfl) hT rfl (fun q => by cases q; exact hr)
    · refine S_aload_n (dc_X10_liesIn 9 rfl) rfl ?_
      refine S_iload_n (dc_X10_liesIn 10 rfl) rfl ?_
      refine S_aload_n (dc_X10_liesIn 11 rfl) rfl ?_
      refine S_iload_n (dc_X10_liesIn 12 rfl) rfl ?_
      refine S_iconst_ 0 (dc_X10_liesIn 13 rfl) rfl ?_
      refine S_roI (d := k_d K - 1) (e_callV (b := a0) (As := [.int a1, .int 0]) (rest := [.int a2, .ref a0]) ok_X10_x rfl (Nat.le_of_ble_eq_true rfl) (dc_X10_liesIn 14 rfl) ho q1815 q1817 (show e_cl[8]? = some (RX10, TX10, 51) from rfl) (e_sel.of qs58) (e_fA_of e6).1 rfl (Nat.le_of_ble_eq_true rfl)) (by omega) (fun _ e => ct_X10_x (by omega) e) (fun x22 e22 => ?_)
      refine S_aload_n (dc_X10_liesIn 15 rfl) rfl ?_
      refine S_iload_n (dc_X10_liesIn 16 rfl) rfl ?_
      refine S_iconst_ 0 (dc_X10_liesIn 17 rfl) rfl ?_
      refine S_roI (d := k_d K - 1) (e_callV (b := a0) (As := [.int a1, .int 0]) (rest := [.int x22, .int a2, .ref a0]) ok_X10_y rfl (Nat.le_of_ble_eq_true rfl) (dc_X10_liesIn 18 rfl) ho q1819 q1821 (show e_cl[8]? = some (RX10, TX10, 51) from rfl) (e_sel.of qs59) (e_fA_of e6).1 rfl (Nat.le_of_ble_eq_true rfl)) (by omega) (fun _ e => ct_X10_y (by omega) e) (fun x28 e28 => ?_)
      refine S_roI (d := k_d K - 1) (e_callV (b := a0) (As := [.int a2, .int x22, .int x28]) (rest := []) ok_X10_isWithin rfl (Nat.le_of_ble_eq_true rfl) (dc_X10_liesIn 19 rfl) ho q1861 q1863 (show e_cl[8]? = some (RX10, TX10, 51) from rfl) (e_sel.of qs65) (e_fA_of e6).1 rfl (Nat.le_of_ble_eq_true rfl)) (by omega) (fun _ e => ct_X10_isWithin (by omega) e) (fun x31 e31 => ?_)
      refine S_if_eq 41 (dc_X10_liesIn 20 rfl) rfl (fun c34 => ?_) (fun c34 => ?_)
      · refine S_iconst_ 0 (dc_X10_liesIn 23 rfl) rfl ?_
        exact S_iret (dc_X10_liesIn 24 rfl) hT rfl (fun q => by cases q; exact hr)
      · refine S_iconst_ 1 (dc_X10_liesIn 21 rfl) rfl ?_
        refine S_goto 42 (dc_X10_liesIn 22 rfl) rfl ?_
        exact S_iret (dc_X10_liesIn 24 rfl) hT rfl (fun q => by cases q; exact hr)
abbrev cX10_in : ByteArray := prog_18_method_72_code
def yX10_in : MethodName := ⟨"PegBandsModel", "in", "(II)I"⟩
def tb_X10_in : List (Nat × Instr × Nat) := [(0, .aload_n 0, 1), (1, .iconst 0, 1), (2, .putfield 94, 3), (5, .aload_n 0, 1), (6, .iload_n 1, 1), (7, .invokevirtual 304, 3), (10, .ifCond .eq 28, 3), (13, .aload_n 0, 1), (14, .iload_n 2, 1), (15, .invokevirtual 304, 3), (18, .ifCond .eq 20, 3), (21, .aload_n 0, 1), (22, .iload_n 1, 1), (23, .iload_n 2, 1), (24, .invokevirtual 333, 3), (27, .ifCond .eq 7, 3), (30, .iconst 1, 1), (31, .goto 8, 3), (34, .iconst 0, 1), (35, .goto 4, 3), (38, .iconst (-1), 1), (39, .ireturn, 1)]
theorem tk_X10_in : ∀ q ∈ tb_X10_in, decode cX10_in q.1 = .ok q.2 := by decide +kernel
theorem dc_X10_in (k : Nat) {pc n : Nat} {i : Instr} (h : tb_X10_in[k]? = some (pc, i, n)) : decode cX10_in pc = .ok (i, n) := tk_X10_in (pc, i, n) (List.mem_of_getElem? h)
abbrev mX10_in : e_M := (yX10_in, cX10_in, 3, some (.int), [])
theorem ok_X10_in : e_mok mX10_in 2 := ⟨q1880, q119, by decide +kernel, fun sig h => by cases h; rfl⟩
def f_X10_in (F : Nat) (h : e_H) (a0 : Nat) (a1 : Int32) (a2 : Int32) : Option (Int32 × e_H) :=
  Option.bind (e_gI h a0 8 0 0) (fun h2 =>
  Option.bind (e_is h2 a0 8) (fun _ =>
  Option.bind (f_X10_isBand h2 a0 a1) (fun x7 =>
  if x7 = 0 then
    some ((-1), h2)
  else
    Option.bind (f_X10_isBand h2 a0 a2) (fun x15 =>
    if x15 = 0 then
      some ((-1), h2)
    else
      Option.bind (f_X10_liesIn F h2 a0 a1 a2) (fun x24 =>
      if x24 = 0 then
        some (0, h2)
      else
        some (1, h2))))))
set_option maxHeartbeats 4000000 in
set_option maxRecDepth 100000 in
theorem ct_X10_in {l : Launch} {D : e_D} {B : Heap} {F : Nat} {d : Nat} {h : e_H} {a0 : Nat} {a1 : Int32} {a2 : Int32} {v : Int32} {h1 : e_H} (hd : 8 ≤ d) (e : f_X10_in F h a0 a1 a2 = some (v, h1)) : e_Run l D B d mX10_in [.ref a0, .int a1, .int a2] h (.ok (some (.int v)), h1) := by
  refine e_start [some (.ref a0), some (.int a1), some (.int a2)] (by decide) rfl rfl rfl (Nat.le_of_ble_eq_true rfl) (fun K hl0 hD0 hB0 hM hd0 hr => ?_)
  subst hl0 hD0 hB0 hd0
  have ho : (k_M K).1.cls = "PegBandsModel" := by rw [hM]; rfl
  have hT : (k_M K).2.2.2.1 = some (.int) := by rw [hM]
  refine (show Sx K cX10_in 0 [some (.ref a0), some (.int a1), some (.int a2)] [] h (f_X10_in F h a0 a1 a2) (fun w => w = (v, h1)) from ?_) _ e rfl
  clear e
  unfold f_X10_in
  refine S_aload_n (dc_X10_in 0 rfl) rfl ?_
  refine S_iconst_ 0 (dc_X10_in 1 rfl) rfl ?_
  refine S_putI (dc_X10_in 2 rfl) ho fl_X10_94_8_0 (fun _ _ => rfl) (Or.inl rfl) rfl rfl (fun h2 e2 => ?_)
  refine S_aload_n (dc_X10_in 3 rfl) rfl ?_
  refine S_iload_n (dc_X10_in 4 rfl) rfl ?_
  refine Sx.ask (fun _ i7 => ?_)
  refine S_roI (d := k_d K - 1) (e_callV (b := a0) (As := [.int a1]) (rest := []) ok_X10_isBand rfl (Nat.le_of_ble_eq_true rfl) (dc_X10_in 5 rfl) ho q1791 q1793 (show e_cl[8]? = some (RX10, TX10, 51) from rfl) (e_sel.of qs52) (e_is_of i7) rfl (Nat.le_of_ble_eq_true rfl)) (by omega) (fun _ e => ct_X10_isBand (by omega) e) (fun x7 e7 => ?_)
  refine S_if_eq 38 (dc_X10_in 6 rfl) rfl (fun c10 => ?_) (fun c10 => ?_)
  · refine S_iconst_ (-1) (dc_X10_in 20 rfl) rfl ?_
    exact S_iret (dc_X10_in 21 rfl) hT rfl (e_rqI hr)
  · refine S_aload_n (dc_X10_in 7 rfl) rfl ?_
    refine S_iload_n (dc_X10_in 8 rfl) rfl ?_
    refine S_roI (d := k_d K - 1) (e_callV (b := a0) (As := [.int a2]) (rest := []) ok_X10_isBand rfl (Nat.le_of_ble_eq_true rfl) (dc_X10_in 9 rfl) ho q1791 q1793 (show e_cl[8]? = some (RX10, TX10, 51) from rfl) (e_sel.of qs52) (e_is_of i7) rfl (Nat.le_of_ble_eq_true rfl)) (by omega) (fun _ e => ct_X10_isBand (by omega) e) (fun x15 e15 => ?_)
    refine S_if_eq 38 (dc_X10_in 10 rfl) rfl (fun c18 => ?_) (fun c18 => ?_)
    · refine S_iconst_ (-1) (dc_X10_in 20 rfl) rfl ?_
      exact S_iret (dc_X10_in 21 rfl) hT rfl (e_rqI hr)
    · refine S_aload_n (dc_X10_in 11 rfl) rfl ?_
      refine S_iload_n (dc_X10_in 12 rfl) rfl ?_
      refine S_iload_n (dc_X10_in 13 rfl) rfl ?_
      refine S_roI (d := k_d K - 1) (e_callV (b := a0) (As := [.int a1, .int a2]) (rest := []) ok_X10_liesIn rfl (Nat.le_of_ble_eq_true rfl) (dc_X10_in 14 rfl) ho q1881 q1883 (show e_cl[8]? = some (RX10, TX10, 51) from rfl) (e_sel.of qs68) (e_is_of i7) rfl (Nat.le_of_ble_eq_true rfl)) (by omega) (fun _ e => ct_X10_liesIn (by omega) e) (fun x24 e24 => ?_)
      refine S_if_eq 34 (dc_X10_in 15 rfl) rfl (fun c27 => ?_) (fun c27 => ?_)
      · refine S_iconst_ 0 (dc_X10_in 18 rfl) rfl ?_
        refine S_goto 39 (dc_X10_in 19 rfl) rfl ?_
        exact S_iret (dc_X10_in 21 rfl) hT rfl (e_rqI hr)
      · refine S_iconst_ 1 (dc_X10_in 16 rfl) rfl ?_
        refine S_goto 39 (dc_X10_in 17 rfl) rfl ?_
        exact S_iret (dc_X10_in 21 rfl) hT rfl (e_rqI hr)
