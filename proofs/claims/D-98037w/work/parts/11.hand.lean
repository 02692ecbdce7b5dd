/-! by hand: String constants, Faults, a new exception -/
set_option maxRecDepth 100000
abbrev cJ2_coder : ByteArray := prog_25_method_152_code
def yJ2_coder : MethodName := ⟨"java/lang/String", "coder", "()B"⟩
def tb_J2_coder : List (Nat × Instr × Nat) := [(0, .getstatic 38, 3), (3, .ifCond .eq 10, 3), (6, .aload_n 0, 1), (7, .getfield 15, 3), (10, .goto 4, 3), (13, .iconst 1, 1), (14, .ireturn, 1)]
theorem tk_J2_coder : ∀ q ∈ tb_J2_coder, decode cJ2_coder q.1 = .ok q.2 := by decide +kernel
theorem dc_J2_coder (k : Nat) {pc n : Nat} {i : Instr} (h : tb_J2_coder[k]? = some (pc, i, n)) : decode cJ2_coder pc = .ok (i, n) := tk_J2_coder (pc, i, n) (List.mem_of_getElem? h)
abbrev mJ2_coder : e_M := (yJ2_coder, cJ2_coder, 1, some (.byte), [])
theorem ok_J2_coder : e_mok mJ2_coder 0 := ⟨q647, q120, by decide +kernel, fun sig h => by cases h; rfl⟩
abbrev cJ2_length : ByteArray := prog_25_method_54_code
def yJ2_length : MethodName := ⟨"java/lang/String", "length", "()I"⟩
def tb_J2_length : List (Nat × Instr × Nat) := [(0, .aload_n 0, 1), (1, .getfield 9, 3), (4, .arraylength, 1), (5, .aload_n 0, 1), (6, .invokevirtual 335, 3), (9, .ishr, 1), (10, .ireturn, 1)]
theorem tk_J2_length : ∀ q ∈ tb_J2_length, decode cJ2_length q.1 = .ok q.2 := by decide +kernel
theorem dc_J2_length (k : Nat) {pc n : Nat} {i : Instr} (h : tb_J2_length[k]? = some (pc, i, n)) : decode cJ2_length pc = .ok (i, n) := tk_J2_length (pc, i, n) (List.mem_of_getElem? h)
abbrev mJ2_length : e_M := (yJ2_length, cJ2_length, 1, some (.int), [])
theorem ok_J2_length : e_mok mJ2_length 0 := ⟨q643, q120, by decide +kernel, fun sig h => by cases h; rfl⟩
abbrev cJ2_isLatin1 : ByteArray := prog_25_method_154_code
def yJ2_isLatin1 : MethodName := ⟨"java/lang/String", "isLatin1", "()Z"⟩
def tb_J2_isLatin1 : List (Nat × Instr × Nat) := [(0, .getstatic 38, 3), (3, .ifCond .eq 14, 3), (6, .aload_n 0, 1), (7, .getfield 15, 3), (10, .ifCond .ne 7, 3), (13, .iconst 1, 1), (14, .goto 4, 3), (17, .iconst 0, 1), (18, .ireturn, 1)]
theorem tk_J2_isLatin1 : ∀ q ∈ tb_J2_isLatin1, decode cJ2_isLatin1 q.1 = .ok q.2 := by decide +kernel
theorem dc_J2_isLatin1 (k : Nat) {pc n : Nat} {i : Instr} (h : tb_J2_isLatin1[k]? = some (pc, i, n)) : decode cJ2_isLatin1 pc = .ok (i, n) := tk_J2_isLatin1 (pc, i, n) (List.mem_of_getElem? h)
abbrev mJ2_isLatin1 : e_M := (yJ2_isLatin1, cJ2_isLatin1, 1, some (.boolean), [])
theorem ok_J2_isLatin1 : e_mok mJ2_isLatin1 0 := ⟨q657, q120, by decide +kernel, fun sig h => by cases h; rfl⟩
abbrev cJ4_checkIndex : ByteArray := prog_33_method_11_code
def yJ4_checkIndex : MethodName := ⟨"jdk/internal/util/Preconditions", "checkIndex", "(IILjava/util/function/BiFunction;)I"⟩
def tb_J4_checkIndex : List (Nat × Instr × Nat) := [(0, .iload_n 0, 1), (1, .ifCond .lt 8, 3), (4, .iload_n 0, 1), (5, .iload_n 1, 1), (6, .if_icmp .lt 10, 3), (9, .aload_n 2, 1), (10, .iload_n 0, 1), (11, .iload_n 1, 1), (12, .invokestatic 95, 3), (15, .athrow, 1), (16, .iload_n 0, 1), (17, .ireturn, 1)]
theorem tk_J4_checkIndex : ∀ q ∈ tb_J4_checkIndex, decode cJ4_checkIndex q.1 = .ok q.2 := by decide +kernel
theorem dc_J4_checkIndex (k : Nat) {pc n : Nat} {i : Instr} (h : tb_J4_checkIndex[k]? = some (pc, i, n)) : decode cJ4_checkIndex pc = .ok (i, n) := tk_J4_checkIndex (pc, i, n) (List.mem_of_getElem? h)
abbrev mJ4_checkIndex : e_M := (yJ4_checkIndex, cJ4_checkIndex, 3, some (.int), [])
theorem ok_J4_checkIndex : e_mok mJ4_checkIndex 3 := ⟨q668, q122, by decide +kernel, fun sig h => by cases h; rfl⟩
abbrev cJ2_checkIndex : ByteArray := prog_25_method_155_code
def yJ2_checkIndex : MethodName := ⟨"java/lang/String", "checkIndex", "(II)V"⟩
def tb_J2_checkIndex : List (Nat × Instr × Nat) := [(0, .iload_n 0, 1), (1, .iload_n 1, 1), (2, .getstatic 1053, 3), (5, .invokestatic 1059, 3), (8, .pop, 1), (9, .return_, 1)]
theorem tk_J2_checkIndex : ∀ q ∈ tb_J2_checkIndex, decode cJ2_checkIndex q.1 = .ok q.2 := by decide +kernel
theorem dc_J2_checkIndex (k : Nat) {pc n : Nat} {i : Instr} (h : tb_J2_checkIndex[k]? = some (pc, i, n)) : decode cJ2_checkIndex pc = .ok (i, n) := tk_J2_checkIndex (pc, i, n) (List.mem_of_getElem? h)
abbrev mJ2_checkIndex : e_M := (yJ2_checkIndex, cJ2_checkIndex, 2, none, [])
theorem ok_J2_checkIndex : e_mok mJ2_checkIndex 2 := ⟨q663, q120, by decide +kernel, fun sig h => by cases h; rfl⟩
abbrev cJ3_charAt : ByteArray := prog_26_method_2_code
def yJ3_charAt : MethodName := ⟨"java/lang/StringLatin1", "charAt", "([BI)C"⟩
def tb_J3_charAt : List (Nat × Instr × Nat) := [(0, .iload_n 1, 1), (1, .aload_n 0, 1), (2, .arraylength, 1), (3, .invokestatic 9, 3), (6, .aload_n 0, 1), (7, .iload_n 1, 1), (8, .baload, 1), (9, .sipush 255, 3), (12, .iand, 1), (13, .i2c, 1), (14, .ireturn, 1)]
theorem tk_J3_charAt : ∀ q ∈ tb_J3_charAt, decode cJ3_charAt q.1 = .ok q.2 := by decide +kernel
theorem dc_J3_charAt (k : Nat) {pc n : Nat} {i : Instr} (h : tb_J3_charAt[k]? = some (pc, i, n)) : decode cJ3_charAt pc = .ok (i, n) := tk_J3_charAt (pc, i, n) (List.mem_of_getElem? h)
abbrev mJ3_charAt : e_M := (yJ3_charAt, cJ3_charAt, 2, some (.char), [])
theorem ok_J3_charAt : e_mok mJ3_charAt 2 := ⟨q660, q121, by decide +kernel, fun sig h => by cases h; rfl⟩
abbrev cJ2_charAt : ByteArray := prog_25_method_56_code
def yJ2_charAt : MethodName := ⟨"java/lang/String", "charAt", "(I)C"⟩
def tb_J2_charAt : List (Nat × Instr × Nat) := [(0, .aload_n 0, 1), (1, .invokevirtual 492, 3), (4, .ifCond .eq 12, 3), (7, .aload_n 0, 1), (8, .getfield 9, 3), (11, .iload_n 1, 1), (12, .invokestatic 495, 3), (15, .ireturn, 1), (16, .aload_n 0, 1), (17, .getfield 9, 3), (20, .iload_n 1, 1), (21, .invokestatic 498, 3), (24, .ireturn, 1)]
theorem tk_J2_charAt : ∀ q ∈ tb_J2_charAt, decode cJ2_charAt q.1 = .ok q.2 := by decide +kernel
theorem dc_J2_charAt (k : Nat) {pc n : Nat} {i : Instr} (h : tb_J2_charAt[k]? = some (pc, i, n)) : decode cJ2_charAt pc = .ok (i, n) := tk_J2_charAt (pc, i, n) (List.mem_of_getElem? h)
abbrev mJ2_charAt : e_M := (yJ2_charAt, cJ2_charAt, 2, some (.char), [])
theorem ok_J2_charAt : e_mok mJ2_charAt 1 := ⟨q653, q120, by decide +kernel, fun sig h => by cases h; rfl⟩
abbrev cJ0_init_2 : ByteArray := prog_29_method_5_code
def yJ0_init_2 : MethodName := ⟨"java/lang/Throwable", "<init>", "(Ljava/lang/String;Ljava/lang/Throwable;ZZ)V"⟩
def tb_J0_init_2 : List (Nat × Instr × Nat) := [(0, .aload_n 0, 1), (1, .invokespecial 1, 3), (4, .aload_n 0, 1), (5, .aload_n 0, 1), (6, .putfield 7, 3), (9, .aload_n 0, 1), (10, .getstatic 13, 3), (13, .putfield 17, 3), (16, .aload_n 0, 1), (17, .getstatic 20, 3), (20, .putfield 24, 3), (23, .iload 4, 2), (25, .ifCond .eq 11, 3), (28, .aload_n 0, 1), (29, .invokevirtual 27, 3), (32, .pop, 1), (33, .goto 8, 3), (36, .aload_n 0, 1), (37, .aconst_null, 1), (38, .putfield 17, 3), (41, .aload_n 0, 1), (42, .aload_n 1, 1), (43, .putfield 31, 3), (46, .aload_n 0, 1), (47, .aload_n 2, 1), (48, .putfield 7, 3), (51, .iload_n 3, 1), (52, .ifCond .ne 8, 3), (55, .aload_n 0, 1), (56, .aconst_null, 1), (57, .putfield 24, 3), (60, .return_, 1)]
theorem tk_J0_init_2 : ∀ q ∈ tb_J0_init_2, decode cJ0_init_2 q.1 = .ok q.2 := by decide +kernel
theorem dc_J0_init_2 (k : Nat) {pc n : Nat} {i : Instr} (h : tb_J0_init_2[k]? = some (pc, i, n)) : decode cJ0_init_2 pc = .ok (i, n) := tk_J0_init_2 (pc, i, n) (List.mem_of_getElem? h)
abbrev mJ0_init_2 : e_M := (yJ0_init_2, cJ0_init_2, 5, none, [])
theorem ok_J0_init_2 : e_mok mJ0_init_2 4 := ⟨q189, q109, by decide +kernel, fun sig h => by cases h; rfl⟩
abbrev cJ1_init : ByteArray := prog_22_method_5_code
def yJ1_init : MethodName := ⟨"java/lang/Exception", "<init>", "(Ljava/lang/String;Ljava/lang/Throwable;ZZ)V"⟩
def tb_J1_init : List (Nat × Instr × Nat) := [(0, .aload_n 0, 1), (1, .aload_n 1, 1), (2, .aload_n 2, 1), (3, .iload_n 3, 1), (4, .iload 4, 2), (6, .invokespecial 16, 3), (9, .return_, 1)]
theorem tk_J1_init : ∀ q ∈ tb_J1_init, decode cJ1_init q.1 = .ok q.2 := by decide +kernel
theorem dc_J1_init (k : Nat) {pc n : Nat} {i : Instr} (h : tb_J1_init[k]? = some (pc, i, n)) : decode cJ1_init pc = .ok (i, n) := tk_J1_init (pc, i, n) (List.mem_of_getElem? h)
abbrev mJ1_init : e_M := (yJ1_init, cJ1_init, 5, none, [])
theorem ok_J1_init : e_mok mJ1_init 4 := ⟨q186, q110, by decide +kernel, fun sig h => by cases h; rfl⟩
abbrev cX2_init : ByteArray := prog_11_method_1_code
def yX2_init : MethodName := ⟨"PegBands$Fault", "<init>", "()V"⟩
def tb_X2_init : List (Nat × Instr × Nat) := [(0, .aload_n 0, 1), (1, .aconst_null, 1), (2, .aconst_null, 1), (3, .iconst 0, 1), (4, .iconst 0, 1), (5, .invokespecial 1, 3), (8, .return_, 1)]
theorem tk_X2_init : ∀ q ∈ tb_X2_init, decode cX2_init q.1 = .ok q.2 := by decide +kernel
theorem dc_X2_init (k : Nat) {pc n : Nat} {i : Instr} (h : tb_X2_init[k]? = some (pc, i, n)) : decode cX2_init pc = .ok (i, n) := tk_X2_init (pc, i, n) (List.mem_of_getElem? h)
abbrev mX2_init : e_M := (yX2_init, cX2_init, 1, none, [])
theorem ok_X2_init : e_mok mX2_init 0 := ⟨q183, q111, by decide +kernel, fun sig h => by cases h; rfl⟩
abbrev cX1_must : ByteArray := prog_1_method_7_code
def yX1_must : MethodName := ⟨"PegBands", "must", "(Z)V"⟩
def tb_X1_must : List (Nat × Instr × Nat) := [(0, .iload_n 0, 1), (1, .ifCond .ne 11, 3), (4, .new 164, 3), (7, .dup, 1), (8, .invokespecial 166, 3), (11, .athrow, 1), (12, .return_, 1)]
theorem tk_X1_must : ∀ q ∈ tb_X1_must, decode cX1_must q.1 = .ok q.2 := by decide +kernel
theorem dc_X1_must (k : Nat) {pc n : Nat} {i : Instr} (h : tb_X1_must[k]? = some (pc, i, n)) : decode cX1_must pc = .ok (i, n) := tk_X1_must (pc, i, n) (List.mem_of_getElem? h)
abbrev mX1_must : e_M := (yX1_must, cX1_must, 1, none, [])
theorem ok_X1_must : e_mok mX1_must 1 := ⟨q1438, q108, by decide +kernel, fun sig h => by cases h; rfl⟩
section HAND
variable {K : e_C} {cc : ByteArray} {pc : Nat} {L : List (Option Value)} {st : List Value} {h : e_H} {γ : Type} {Q : γ → Prop} {X : Option γ}
/-- the world since the method's entry, as the kit's old rows ask it -/
theorem e_vaS {p : Program} {R : Room} {s : State} {m : MethodId} {args : Array Value} {meth : Method} {c : Code} {H : Heap} {locs : List Loc} (E : e_Ent K cc p R s m args meth c) (l : e_le (k_h K) h) (a3 : e_Rel (k_D K) (k_B K) h H) (a4 : ∀ z ∈ locs, (k_B K).size ≤ z.base) : va_S (fun q => (k_B K).size ≤ q) s.heap H locs := by
  obtain ⟨-, -, -, -, -, -, -, -, -, -, hR, -⟩ := E
  refine ⟨by rw [hR.1, a3.1]; exact l.1, fun q hq hn => ?_, a4⟩
  have hq2 : q < (k_B K).size := Nat.not_le.mp hn
  rw [a3.2.2.1 q hq2, hR.2.2.1 q hq2]
theorem e_oldS {p : Program} {R : Room} {s : State} {m : MethodId} {args : Array Value} {meth : Method} {c : Code} (E : e_Ent K cc p R s m args meth c) : ∀ a : Nat, a < (k_B K).size → ¬ ((k_B K).size ≤ a) → s.heap[a]? = (k_B K)[a]? := fun a ha _ => E.2.2.2.2.2.2.2.2.2.2.1.2.2.1 a ha
theorem S_strV {own : String} {idx i : Nat} (hd : decode cc pc = .ok (.getfield idx, 3)) (ho : (k_M K).1.cls = own) (hl : Cond.fieldLink own idx "java/lang/String" "value" "[B" ∈ lw_all) (hi : i < 17) (k : Sx K cc (pc + 3) L (.ref ((k_D K).2.2.2 i) :: st) h X Q) : Sx K cc pc L (.ref ((k_D K).2.2.1 i) :: st) h X Q := by
  subst ho
  intro v9 e9 q9
  refine e_lift (k v9 e9 q9) ?_
  intro W9 p e R s m args below meth c E l ls H locs a1 a2 a3 a4
  exact vk_getf E.1 E.2.1 ((E.2.2.2.2.2.2.2.2.2.1.2.2.2.2.2.2.1.1 i hi).2.2.1.kept (e_oldS E)) (e_vaS E l a3 a4) E.2.2.2.2.2.1 (E.2.2.2.2.1 _ hl) (fun _ h => h) hd (W9 E l ls H locs a1 a2 a3 a4)
theorem S_strC {own : String} {idx i : Nat} (hd : decode cc pc = .ok (.getfield idx, 3)) (ho : (k_M K).1.cls = own) (hl : Cond.fieldLink own idx "java/lang/String" "coder" "B" ∈ lw_all) (hi : i < 17) (k : Sx K cc (pc + 3) L (.int 0 :: st) h X Q) : Sx K cc pc L (.ref ((k_D K).2.2.1 i) :: st) h X Q := by
  subst ho
  intro v9 e9 q9
  refine e_lift (k v9 e9 q9) ?_
  intro W9 p e R s m args below meth c E l ls H locs a1 a2 a3 a4
  exact vk_getf E.1 E.2.1 ((E.2.2.2.2.2.2.2.2.2.1.2.2.2.2.2.2.1.1 i hi).2.1.kept (e_oldS E)) (e_vaS E l a3 a4) E.2.2.2.2.2.1 (E.2.2.2.2.1 _ hl) (fun _ h => h) hd (W9 E l ls H locs a1 a2 a3 a4)
theorem S_strLen {i : Nat} (hd : decode cc pc = .ok (.arraylength, 1)) (hi : i < 17) (k : Sx K cc (pc + 1) L (.int (nI (e_sl.getD i 0)) :: st) h X Q) : Sx K cc pc L (.ref ((k_D K).2.2.2 i) :: st) h X Q := by
  intro v9 e9 q9
  refine e_lift (k v9 e9 q9) ?_
  intro W9 p e R s m args below meth c E l ls H locs a1 a2 a3 a4
  exact va_tlen E.1 E.2.1 ((E.2.2.2.2.2.2.2.2.2.1.2.2.2.2.2.2.1.1 i hi).2.2.2.kept (e_oldS E)) (e_vaS E l a3 a4) rfl hd (W9 E l ls H locs a1 a2 a3 a4)
theorem S_strAt {i : Nat} {j : Int32} (hd : decode cc pc = .ok (.baload, 1)) (hi : i < 17) (hj : vp_in j (e_sl.getD i 0)) (k : Sx K cc (pc + 1) L (.int ((e_sb.getD i []).getD j.toNatClampNeg 0) :: st) h X Q) : Sx K cc pc L (.int j :: .ref ((k_D K).2.2.2 i) :: st) h X Q := by
  intro v9 e9 q9
  refine e_lift (k v9 e9 q9) ?_
  intro W9 p e R s m args below meth c E l ls H locs a1 a2 a3 a4
  exact va_tb E.1 E.2.1 ((E.2.2.2.2.2.2.2.2.2.1.2.2.2.2.2.2.1.1 i hi).2.2.2.kept (e_oldS E)) (e_vaS E l a3 a4) hj rfl hd (W9 E l ls H locs a1 a2 a3 a4)
theorem e_scOf {p : Program} {R : Room} {s : State} {m : MethodId} {args : Array Value} {meth : Method} {c : Code} (E : e_Ent K cc p R s m args meth c) : va_X ((k_D K).2.2.1 100) ((k_D K).2.2.1 101) (fun j => Int32.ofNat ((k_D K).2.2.2 (100 + j))) s s.heap ∧ (k_D K).2.2.1 100 < s.heap.size ∧ ¬ ((k_B K).size ≤ (k_D K).2.2.1 100) := by
  obtain ⟨hX, hb⟩ := E.2.2.2.2.2.2.2.2.2.1.2.2.2.2.2.2.2.2.2.2
  refine ⟨hX.kept (e_oldS E _ hb (Nat.not_le.mpr hb)), ?_, Nat.not_le.mpr hb⟩
  have h1 := E.2.2.2.2.2.2.2.2.2.2.1.1
  have h2 := E.2.2.2.2.2.2.2.2.2.2.1.2.1
  omega
/-- the script: what stands at i -/
def e_scr (A P : Nat → Nat) (i : Int32) : Option Int32 := if i < 0 ∨ A 101 ≤ i.toNatClampNeg then none else some (Int32.ofNat (P (100 + i.toNatClampNeg)))
theorem S_scLen {A : Nat → Nat} (hA : (k_D K).2.2.1 = A) (hd : decode cc pc = .ok (.arraylength, 1)) (k : Sx K cc (pc + 1) L (.int (Int32.ofNat (A 101)) :: st) h X Q) : Sx K cc pc L (.ref (A 100) :: st) h X Q := by
  subst hA
  intro v9 e9 q9
  refine e_lift (k v9 e9 q9) ?_
  intro W9 p e R s m args below meth c E l ls H locs a1 a2 a3 a4
  exact va_slen E.1 E.2.1 (e_scOf E).1 (e_scOf E).2.1 (e_scOf E).2.2 (e_vaS E l a3 a4) hd (W9 E l ls H locs a1 a2 a3 a4)
theorem S_scAt {A P : Nat → Nat} {i : Int32} {X : Int32 → Option γ} (hA : (k_D K).2.2.1 = A) (hP : (k_D K).2.2.2 = P) (hd : decode cc pc = .ok (.iaload, 1)) (k : ∀ v, Sx K cc (pc + 1) L (.int v :: st) h (X v) Q) : Sx K cc pc L (.int i :: .ref (A 100) :: st) h ((e_scr A P i).bind X) Q := by
  subst hA hP
  intro v9 e9 q9
  unfold e_scr at e9
  split at e9
  · cases e9
  · rename_i hj
    refine e_lift (k _ v9 e9 q9) ?_
    intro W9 p e R s m args below meth c E l ls H locs a1 a2 a3 a4
    exact va_sld E.1 E.2.1 (e_scOf E).1 (e_scOf E).2.1 (e_scOf E).2.2 (e_vaS E l a3 a4) hj hd (W9 E l ls H locs a1 a2 a3 a4)
theorem e_rqI {x v : Int32} {h0 h1 : e_H} (hr : k_r K = (.ok (some (.int v)), h1)) (q : (x, h0) = (v, h1)) : k_r K = (.ok (some (.int x)), h0) := by
  have a : x = v := congrArg Prod.fst q
  have b : h0 = h1 := congrArg Prod.snd q
  rw [a, b]; exact hr
theorem S_gets {own C n d : String} {idx : Nat} {v : Value} (hd : decode cc pc = .ok (.getstatic idx, 3)) (ho : (k_M K).1.cls = own) (hl : Cond.fieldLink own idx C n d ∈ lw_all) (hZ : ∀ {D : e_D} {B : Heap} {s : State}, e_G D B s → va_Z C n d v (fun q => B.size ≤ q) s B) (k : Sx K cc (pc + 3) L (v :: st) h X Q) : Sx K cc pc L st h X Q := by
  subst ho
  intro v9 e9 q9
  refine e_lift (k v9 e9 q9) ?_
  intro W9 p e R s m args below meth c E l ls H locs a1 a2 a3 a4
  exact va_gets E.1 E.2.1 ((hZ E.2.2.2.2.2.2.2.2.2.1).kept (e_oldS E)) (e_vaS E l a3 a4) E.2.2.2.2.2.1 (E.2.2.2.2.1 _ hl) (fun _ h => h) hd (W9 E l ls H locs a1 a2 a3 a4)
theorem S_getsQ {own C n d : String} {idx : Nat} (hd : decode cc pc = .ok (.getstatic idx, 3)) (ho : (k_M K).1.cls = own) (hl : Cond.fieldLink own idx C n d ∈ lw_all) (hZ : ∀ {D : e_D} {B : Heap} {s : State}, e_G D B s → va_Zq C n d (fun q => B.size ≤ q) s B) (k : ∀ r, Sx K cc (pc + 3) L (va_rf r :: st) h X Q) : Sx K cc pc L st h X Q := by
  subst ho
  intro v9 e9 q9
  refine ⟨(k none v9 e9 q9).1, ?_⟩
  intro p e R s m args below meth c E l ls H locs a1 a2 a3 a4
  rcases (hZ E.2.2.2.2.2.2.2.2.2.1).kept (e_oldS E) with hz | ⟨t, hz⟩
  · exact va_gets E.1 E.2.1 hz (e_vaS E l a3 a4) E.2.2.2.2.2.1 (E.2.2.2.2.1 _ hl) (fun _ h => h) hd ((k none v9 e9 q9).2 (p := p) (e := e) (R := R) (s := s) (m := m) (args := args) (below := below) (meth := meth) (c := c) E l ls H locs a1 a2 a3 a4)
  · exact va_gets E.1 E.2.1 hz (e_vaS E l a3 a4) E.2.2.2.2.2.1 (E.2.2.2.2.1 _ hl) (fun _ h => h) hd ((k (some t) v9 e9 q9).2 (p := p) (e := e) (R := R) (s := s) (m := m) (args := args) (below := below) (meth := meth) (c := c) E l ls H locs a1 a2 a3 a4)
/-- a branch whose test is known -/
theorem S_ifT {x : Int32} {off : Int} (tgt : Nat) (hc : x = 0) (hd : decode cc pc = .ok (.ifCond .eq off, 3)) (ht : (pc : Int) + off = (tgt : Int)) (k : Sx K cc tgt L st h X Q) : Sx K cc pc L (.int x :: st) h X Q := Sx.eq (X' := if x = 0 then X else X) (by simp) (S_if_eq tgt hd ht (fun _ => k) (fun h => absurd hc h))
theorem S_ifF {x : Int32} {off : Int} (tgt : Nat) (hc : ¬ x = 0) (hd : decode cc pc = .ok (.ifCond .eq off, 3)) (ht : (pc : Int) + off = (tgt : Int)) (k : Sx K cc (pc + 3) L st h X Q) : Sx K cc pc L (.int x :: st) h X Q := Sx.eq (X' := if x = 0 then X else X) (by simp) (S_if_eq tgt hd ht (fun h => absurd h hc) (fun _ => k))
theorem S_ifnT {x : Int32} {off : Int} (tgt : Nat) (hc : ¬ x = 0) (hd : decode cc pc = .ok (.ifCond .ne off, 3)) (ht : (pc : Int) + off = (tgt : Int)) (k : Sx K cc tgt L st h X Q) : Sx K cc pc L (.int x :: st) h X Q := Sx.eq (X' := if x = 0 then X else X) (by simp) (S_if_ne tgt hd ht (fun _ => k) (fun h => absurd h hc))
theorem S_ifnF {x : Int32} {off : Int} (tgt : Nat) (hc : x = 0) (hd : decode cc pc = .ok (.ifCond .ne off, 3)) (ht : (pc : Int) + off = (tgt : Int)) (k : Sx K cc (pc + 3) L st h X Q) : Sx K cc pc L (.int x :: st) h X Q := Sx.eq (X' := if x = 0 then X else X) (by simp) (S_if_ne tgt hd ht (fun h => absurd hc h) (fun _ => k))
/-- a store that is taken back later: what X says need not speak of it -/
theorem S_putR0 {own : String} {idx c k a : Nat} {v : Option Nat} (hd : decode cc pc = .ok (.putfield idx, 3)) (ho : (k_M K).1.cls = own) (hf : e_FL own idx c k) (ht : ∀ (g : e_H) (b : Nat), e_V g (e_ty c k) b k = va_rf (e_R g b k)) (hfin : e_fin c k = false ∨ (e_fin c k = true ∧ (k_M K).1.name = "<init>" ∧ e_own c k = own)) (hr : (e_ty c k).isReference = true) (hk : e_k h a = some (.inl c))
    (kk : Sx K cc (pc + 3) L st (e_sR h a k v) X Q) : Sx K cc pc L (va_rf v :: .ref a :: st) h X Q := by
  refine Sx.eq (X' := (e_gR h a c k v).bind fun _ => X) (by simp [e_gR, hk]) (S_putR hd ho hf ht hfin hr (fun h' e => ?_))
  obtain ⟨-, rfl⟩ := e_gR_of e
  exact kk
end HAND
theorem ct_J2_coder {l : Launch} {D : e_D} {B : Heap} {d : Nat} {h : e_H} {i : Nat} (hi : i < 17) (hd : 1 ≤ d) : e_Run l D B d mJ2_coder [.ref (D.2.2.1 i)] h (.ok (some (.int 0)), h) := by
  refine e_start [some (.ref (D.2.2.1 i))] (by decide) rfl rfl rfl (Nat.le_of_ble_eq_true rfl) (fun K hl0 hD0 hB0 hM hd0 hr => ?_)
  subst hl0 hD0 hB0 hd0
  have ho : (k_M K).1.cls = "java/lang/String" := by rw [hM]; rfl
  have hT : (k_M K).2.2.2.1 = some (.byte) := by rw [hM]
  refine (show Sx K cJ2_coder 0 [some (.ref ((k_D K).2.2.1 i))] [] h (some ()) (fun w => w = ()) from ?_) _ rfl rfl
  refine S_gets (v := .int 1) (dc_J2_coder 0 rfl) ho q648 (fun hG => hG.2.2.2.1) ?_
  refine S_ifF 13 (by decide) (dc_J2_coder 1 rfl) rfl ?_
  refine S_aload_n (dc_J2_coder 2 rfl) rfl ?_
  refine S_strC (dc_J2_coder 3 rfl) ho q2187 hi ?_
  refine S_goto 14 (dc_J2_coder 4 rfl) rfl ?_
  exact S_iret (dc_J2_coder 6 rfl) hT rfl (fun q => hr)
theorem ct_J2_length {l : Launch} {D : e_D} {B : Heap} {d : Nat} {h : e_H} {w : Nat} {t : List Int32} {v : Int32} (hw : e_str D.2.2.1 w = some t) (hd : 5 ≤ d) (e : e_slen t = some v) : e_Run l D B d mJ2_length [.ref w] h (.ok (some (.int v)), h) := by
  obtain ⟨i, hi, rfl, rfl⟩ := e_str_of hw
  refine e_start [some (.ref (D.2.2.1 i))] (by decide) rfl rfl rfl (Nat.le_of_ble_eq_true rfl) (fun K hl0 hD0 hB0 hM hd0 hr => ?_)
  subst hl0 hD0 hB0 hd0
  have ho : (k_M K).1.cls = "java/lang/String" := by rw [hM]; rfl
  have hT : (k_M K).2.2.2.1 = some (.int) := by rw [hM]
  have hv : v = nI (e_sl.getD i 0) >>> ((0 : Int32) &&& 31) := by
    unfold e_slen at e
    cases e
    have : ∀ i : Fin 17, nI (e_sb.getD i.val []).length = nI (e_sl.getD i.val 0) >>> ((0 : Int32) &&& 31) := by decide +kernel
    exact this ⟨i, hi⟩
  refine (show Sx K cJ2_length 0 [some (.ref ((k_D K).2.2.1 i))] [] h (some ()) (fun w => w = ()) from ?_) _ rfl rfl
  refine S_aload_n (dc_J2_length 0 rfl) rfl ?_
  refine S_strV (dc_J2_length 1 rfl) ho q2186 hi ?_
  refine S_strLen (dc_J2_length 2 rfl) hi ?_
  refine S_aload_n (dc_J2_length 3 rfl) rfl ?_
  refine Sx.eq (X' := (some (0 : Int32)).bind fun _ => some ()) rfl ?_
  refine S_roI (d := k_d K - 1) (e_callStr (b := (k_D K).2.2.1 i) (As := []) (rest := [.int (nI (e_sl.getD i 0))]) ok_J2_coder rfl (Nat.le_of_ble_eq_true rfl) (dc_J2_length 4 rfl) ho q644 q645 (e_sel.of q646) ⟨i, hi, rfl, rfl⟩ rfl (Nat.le_of_ble_eq_true rfl)) (by omega) (fun _ e => by cases e; exact ct_J2_coder hi (by omega)) (fun x e => ?_)
  cases e
  refine S_ishr (dc_J2_length 5 rfl) ?_
  rw [← hv]
  exact S_iret (dc_J2_length 6 rfl) hT rfl (fun q => hr)
theorem ct_J2_isLatin1 {l : Launch} {D : e_D} {B : Heap} {d : Nat} {h : e_H} {i : Nat} (hi : i < 17) (hd : 1 ≤ d) : e_Run l D B d mJ2_isLatin1 [.ref (D.2.2.1 i)] h (.ok (some (.int 1)), h) := by
  refine e_start [some (.ref (D.2.2.1 i))] (by decide) rfl rfl rfl (Nat.le_of_ble_eq_true rfl) (fun K hl0 hD0 hB0 hM hd0 hr => ?_)
  subst hl0 hD0 hB0 hd0
  have ho : (k_M K).1.cls = "java/lang/String" := by rw [hM]; rfl
  have hT : (k_M K).2.2.2.1 = some (.boolean) := by rw [hM]
  refine (show Sx K cJ2_isLatin1 0 [some (.ref ((k_D K).2.2.1 i))] [] h (some ()) (fun w => w = ()) from ?_) _ rfl rfl
  refine S_gets (v := .int 1) (dc_J2_isLatin1 0 rfl) ho q648 (fun hG => hG.2.2.2.1) ?_
  refine S_ifF 17 (by decide) (dc_J2_isLatin1 1 rfl) rfl ?_
  refine S_aload_n (dc_J2_isLatin1 2 rfl) rfl ?_
  refine S_strC (dc_J2_isLatin1 3 rfl) ho q2187 hi ?_
  refine S_ifnF 17 rfl (dc_J2_isLatin1 4 rfl) rfl ?_
  refine S_iconst_ 1 (dc_J2_isLatin1 5 rfl) rfl ?_
  refine S_goto 18 (dc_J2_isLatin1 6 rfl) rfl ?_
  exact S_iret (dc_J2_isLatin1 8 rfl) hT rfl (fun q => hr)
theorem e_ci1 (z : Int32) : (Value.int z).category = 1 := rfl
theorem ct_J4_checkIndex {l : Launch} {D : e_D} {B : Heap} {d : Nat} {h : e_H} {i n : Int32} {r : Option Nat} (h1 : ¬ i < 0) (h2 : i < n) (hd : 1 ≤ d) : e_Run l D B d mJ4_checkIndex [.int i, .int n, va_rf r] h (.ok (some (.int i)), h) := by
  have key : ∀ w : Value, w.category = 1 → e_Run l D B d mJ4_checkIndex [.int i, .int n, w] h (.ok (some (.int i)), h) := by
    intro w hw
    refine e_start [some (.int i), some (.int n), some w] (by decide) rfl rfl (by simp [e_as, lv_args, hw, e_ci1]) (by simp [lg_sl, hw, e_ci1]) (fun K hl0 hD0 hB0 hM hd0 hr => ?_)
    subst hl0 hD0 hB0 hd0
    have ho : (k_M K).1.cls = "jdk/internal/util/Preconditions" := by rw [hM]; rfl
    have hT : (k_M K).2.2.2.1 = some (.int) := by rw [hM]
    refine (show Sx K cJ4_checkIndex 0 [some (.int i), some (.int n), some w] [] h (some ()) (fun w => w = ()) from ?_) _ rfl rfl
    refine S_iload_n (dc_J4_checkIndex 0 rfl) rfl ?_
    refine Sx.eq (X' := if i < 0 then some () else some ()) (by simp) (S_if_lt 9 (dc_J4_checkIndex 1 rfl) rfl (fun q => absurd q h1) (fun _ => ?_))
    refine S_iload_n (dc_J4_checkIndex 2 rfl) rfl ?_
    refine S_iload_n (dc_J4_checkIndex 3 rfl) rfl ?_
    refine Sx.eq (X' := if i < n then some () else some ()) (by simp) (S_icmp_lt 16 (dc_J4_checkIndex 4 rfl) rfl (fun _ => ?_) (fun q => absurd h2 q))
    refine S_iload_n (dc_J4_checkIndex 10 rfl) rfl ?_
    exact S_iret (dc_J4_checkIndex 11 rfl) hT rfl (fun q => hr)
  exact key _ (by cases r <;> rfl)
theorem ct_J2_checkIndex {l : Launch} {D : e_D} {B : Heap} {d : Nat} {h : e_H} {i n : Int32} (h1 : ¬ i < 0) (h2 : i < n) (hd : 2 ≤ d) : e_Run l D B d mJ2_checkIndex [.int i, .int n] h (.ok none, h) := by
  refine e_start [some (.int i), some (.int n)] (by decide) rfl rfl rfl (Nat.le_of_ble_eq_true rfl) (fun K hl0 hD0 hB0 hM hd0 hr => ?_)
  subst hl0 hD0 hB0 hd0
  have ho : (k_M K).1.cls = "java/lang/String" := by rw [hM]; rfl
  have hT : (k_M K).2.2.2.1 = none := by rw [hM]
  refine (show Sx K cJ2_checkIndex 0 [some (.int i), some (.int n)] [] h (some ()) (fun w => w = ()) from ?_) _ rfl rfl
  refine S_iload_n (dc_J2_checkIndex 0 rfl) rfl ?_
  refine S_iload_n (dc_J2_checkIndex 1 rfl) rfl ?_
  refine S_getsQ (dc_J2_checkIndex 2 rfl) ho q664 (fun hG => hG.2.2.2.2.2.2.2.2.2.1) (fun r => ?_)
  refine Sx.eq (X' := (some i).bind fun _ => some ()) rfl ?_
  refine S_roI (d := k_d K - 1) (e_callS (As := [.int i, .int n, va_rf r]) (rest := []) ok_J4_checkIndex rfl (Nat.le_of_ble_eq_true rfl) (dc_J2_checkIndex 3 rfl) ho q666 q667 rfl (Nat.le_of_ble_eq_true rfl)) (by omega) (fun _ e => by cases e; exact ct_J4_checkIndex h1 h2 (by omega)) (fun x e => ?_)
  refine S_pop (dc_J2_checkIndex 4 rfl) rfl ?_
  exact S_vret (dc_J2_checkIndex 5 rfl) hT (fun q => hr)
theorem e_sat_of {t : List Int32} {i v : Int32} (e : e_sat t i = some v) : ¬ i < 0 ∧ i.toNatClampNeg < t.length ∧ v = t.getD i.toNatClampNeg 0 := by
  unfold e_sat at e
  split at e
  · cases e
  · rename_i hc
    cases e
    exact ⟨fun q => hc (Or.inl q), Nat.not_le.mp fun q => hc (Or.inr q), rfl⟩
theorem e_sl_sb : ∀ i, i < 17 → (e_sb.getD i []).length = e_sl.getD i 0 := by decide +kernel
theorem e_mem_getD {l : List Int32} {i : Nat} (h : i < l.length) : l.getD i 0 ∈ l := by
  rw [List.getD_eq_getElem?_getD, List.getElem?_eq_getElem h]; exact List.getElem_mem _
theorem e_sl_small : ∀ i, i < 17 → e_sl.getD i 0 < 100 := by decide +kernel
theorem e_sb_nice : ∀ i, i < 17 → ∀ v ∈ e_sb.getD i [], ((v &&& 255).toUInt32 % 65536).toInt32 = v ∧ narrow .char (.int v) = .int v := by decide +kernel
theorem ct_J3_charAt {l : Launch} {D : e_D} {B : Heap} {d : Nat} {h : e_H} {w : Nat} {i v : Int32} (hw : w < 17) (hd : 3 ≤ d) (e : e_sat (e_sb.getD w []) i = some v) : e_Run l D B d mJ3_charAt [.ref (D.2.2.2 w), .int i] h (.ok (some (.int v)), h) := by
  obtain ⟨h1, h2, hv⟩ := e_sat_of e
  have hl := e_sl_sb w hw
  have hs := e_sl_small w hw
  rw [hl] at h2
  have hmem : v ∈ e_sb.getD w [] := by
    rw [hv]; exact e_mem_getD (by rw [hl]; exact h2)
  obtain ⟨n1, n2⟩ := e_sb_nice w hw v hmem
  have hin : i < nI (e_sl.getD w 0) := by
    rw [Int32.lt_iff_toInt_lt, nI_toInt (by omega), e_nn i h1]
    omega
  refine e_start [some (.ref (D.2.2.2 w)), some (.int i)] (by decide) rfl rfl rfl (Nat.le_of_ble_eq_true rfl) (fun K hl0 hD0 hB0 hM hd0 hr => ?_)
  subst hl0 hD0 hB0 hd0
  have ho : (k_M K).1.cls = "java/lang/StringLatin1" := by rw [hM]; rfl
  have hT : (k_M K).2.2.2.1 = some (.char) := by rw [hM]
  refine (show Sx K cJ3_charAt 0 [some (.ref ((k_D K).2.2.2 w)), some (.int i)] [] h (some ()) (fun w => w = ()) from ?_) _ rfl rfl
  refine S_iload_n (dc_J3_charAt 0 rfl) rfl ?_
  refine S_aload_n (dc_J3_charAt 1 rfl) rfl ?_
  refine S_strLen (dc_J3_charAt 2 rfl) hw ?_
  refine Sx.eq (X' := (some h).bind fun _ => some ()) rfl ?_
  refine S_rwV (d := k_d K - 1) (e_callS (As := [.int i, .int (nI (e_sl.getD w 0))]) (rest := []) ok_J2_checkIndex rfl (Nat.le_of_ble_eq_true rfl) (dc_J3_charAt 3 rfl) ho q661 q662 rfl (Nat.le_of_ble_eq_true rfl)) (by omega) (fun _ e => by cases e; exact ct_J2_checkIndex h1 hin (by omega)) (fun h1 e => ?_)
  cases e
  refine S_aload_n (dc_J3_charAt 4 rfl) rfl ?_
  refine S_iload_n (dc_J3_charAt 5 rfl) rfl ?_
  refine S_strAt (dc_J3_charAt 6 rfl) hw (fun q => q.elim h1 (fun q => by omega)) ?_
  rw [← hv]
  refine S_sipush_ 255 (dc_J3_charAt 7 rfl) rfl ?_
  refine S_iand (dc_J3_charAt 8 rfl) ?_
  refine S_i2c (dc_J3_charAt 9 rfl) ?_
  rw [n1]
  exact S_iret (dc_J3_charAt 10 rfl) hT n2 (fun q => hr)
theorem ct_J2_charAt {l : Launch} {D : e_D} {B : Heap} {d : Nat} {h : e_H} {w : Nat} {t : List Int32} {i v : Int32} (hw : e_str D.2.2.1 w = some t) (hd : 5 ≤ d) (e : e_sat t i = some v) : e_Run l D B d mJ2_charAt [.ref w, .int i] h (.ok (some (.int v)), h) := by
  obtain ⟨j, hj, rfl, rfl⟩ := e_str_of hw
  obtain ⟨h1, h2, hv⟩ := e_sat_of e
  have hmem : v ∈ e_sb.getD j [] := by
    rw [hv]; exact e_mem_getD h2
  obtain ⟨n1, n2⟩ := e_sb_nice j hj v hmem
  refine e_start [some (.ref (D.2.2.1 j)), some (.int i)] (by decide) rfl rfl rfl (Nat.le_of_ble_eq_true rfl) (fun K hl0 hD0 hB0 hM hd0 hr => ?_)
  subst hl0 hD0 hB0 hd0
  have ho : (k_M K).1.cls = "java/lang/String" := by rw [hM]; rfl
  have hT : (k_M K).2.2.2.1 = some (.char) := by rw [hM]
  refine (show Sx K cJ2_charAt 0 [some (.ref ((k_D K).2.2.1 j)), some (.int i)] [] h (some ()) (fun w => w = ()) from ?_) _ rfl rfl
  refine S_aload_n (dc_J2_charAt 0 rfl) rfl ?_
  refine Sx.eq (X' := (some (1 : Int32)).bind fun _ => some ()) rfl ?_
  refine S_roI (d := k_d K - 1) (e_callStr (b := (k_D K).2.2.1 j) (As := []) (rest := []) ok_J2_isLatin1 rfl (Nat.le_of_ble_eq_true rfl) (dc_J2_charAt 1 rfl) ho q654 q655 (e_sel.of q656) ⟨j, hj, rfl, rfl⟩ rfl (Nat.le_of_ble_eq_true rfl)) (by omega) (fun _ e => by cases e; exact ct_J2_isLatin1 hj (by omega)) (fun x e1 => ?_)
  cases e1
  refine S_ifF 16 (by decide) (dc_J2_charAt 2 rfl) rfl ?_
  refine S_aload_n (dc_J2_charAt 3 rfl) rfl ?_
  refine S_strV (dc_J2_charAt 4 rfl) ho q2186 hj ?_
  refine S_iload_n (dc_J2_charAt 5 rfl) rfl ?_
  refine Sx.eq (X' := (some v).bind fun _ => some ()) rfl ?_
  refine S_roI (d := k_d K - 1) (e_callS (As := [.ref ((k_D K).2.2.2 j), .int i]) (rest := []) ok_J3_charAt rfl (Nat.le_of_ble_eq_true rfl) (dc_J2_charAt 6 rfl) ho q658 q659 rfl (Nat.le_of_ble_eq_true rfl)) (by omega) (fun _ e1 => by cases e1; exact ct_J3_charAt hj (by omega) e) (fun x e1 => ?_)
  cases e1
  exact S_iret (dc_J2_charAt 7 rfl) hT n2 (fun q => hr)
/-! a Fault is made: its Throwable's fields end as they began -/
theorem ct_J0_init_2 {l : Launch} {D : e_D} {B : Heap} {d : Nat} {h : e_H} {a0 : Nat} (hk : e_k h a0 = some (.inl 1)) (z0 : e_R h a0 0 = none) (z1 : e_R h a0 1 = none) (z2 : e_R h a0 2 = none) (z3 : e_R h a0 3 = none) (hd : 2 ≤ d) : e_Run l D B d mJ0_init_2 [.ref a0, .null, .null, .int 0, .int 0] h (.ok none, h) := by
  refine e_start [some (.ref a0), some .null, some .null, some (.int 0), some (.int 0)] (by decide) rfl rfl rfl (Nat.le_of_ble_eq_true rfl) (fun K hl0 hD0 hB0 hM hd0 hr => ?_)
  subst hl0 hD0 hB0 hd0
  have ho : (k_M K).1.cls = "java/lang/Throwable" := by rw [hM]; rfl
  have hT : (k_M K).2.2.2.1 = none := by rw [hM]
  refine (show Sx K cJ0_init_2 0 [some (.ref a0), some .null, some .null, some (.int 0), some (.int 0)] [] h (some ()) (fun w => w = ()) from ?_) _ rfl rfl
  have f7 : e_FL "java/lang/Throwable" 7 1 0 := ⟨_, rfl, by decide, Or.inl q196⟩
  have f17 : e_FL "java/lang/Throwable" 17 1 1 := ⟨_, rfl, by decide, Or.inl q197⟩
  have f24 : e_FL "java/lang/Throwable" 24 1 2 := ⟨_, rfl, by decide, Or.inl q198⟩
  have f31 : e_FL "java/lang/Throwable" 31 1 3 := ⟨_, rfl, by decide, Or.inl q195⟩
  refine S_aload_n (dc_J0_init_2 0 rfl) rfl ?_
  refine S_objInit (dc_J0_init_2 1 rfl) ho q166 (by omega) (Nat.le_of_ble_eq_true rfl) ?_
  refine S_aload_n (dc_J0_init_2 2 rfl) rfl ?_
  refine S_aload_n (dc_J0_init_2 3 rfl) rfl ?_
  refine S_putR0 (v := some a0) (dc_J0_init_2 4 rfl) ho f7 (fun _ _ => rfl) (Or.inl rfl) rfl hk ?_
  refine S_aload_n (dc_J0_init_2 5 rfl) rfl ?_
  refine S_getsQ (dc_J0_init_2 6 rfl) ho q167 (fun hG => hG.2.2.2.2.1.1) (fun r1 => ?_)
  refine S_putR0 (v := r1) (dc_J0_init_2 7 rfl) ho f17 (fun _ _ => rfl) (Or.inl rfl) rfl hk ?_
  refine S_aload_n (dc_J0_init_2 8 rfl) rfl ?_
  refine S_getsQ (dc_J0_init_2 9 rfl) ho q169 (fun hG => hG.2.2.2.2.2.1.1) (fun r2 => ?_)
  refine S_putR0 (v := r2) (dc_J0_init_2 10 rfl) ho f24 (fun _ _ => rfl) (Or.inl rfl) rfl hk ?_
  refine S_iload (dc_J0_init_2 11 rfl) rfl ?_
  refine S_ifT 36 rfl (dc_J0_init_2 12 rfl) rfl ?_
  refine S_aload_n (dc_J0_init_2 17 rfl) rfl ?_
  refine S_null (dc_J0_init_2 18 rfl) ?_
  refine S_putR0 (v := none) (dc_J0_init_2 19 rfl) ho f17 (fun _ _ => rfl) (Or.inl rfl) rfl hk ?_
  refine S_aload_n (dc_J0_init_2 20 rfl) rfl ?_
  refine S_aloadZ_n (dc_J0_init_2 21 rfl) rfl ?_
  refine S_putR0 (v := none) (dc_J0_init_2 22 rfl) ho f31 (fun _ _ => rfl) (Or.inl rfl) rfl hk ?_
  refine S_aload_n (dc_J0_init_2 23 rfl) rfl ?_
  refine S_aloadZ_n (dc_J0_init_2 24 rfl) rfl ?_
  refine S_putR0 (v := none) (dc_J0_init_2 25 rfl) ho f7 (fun _ _ => rfl) (Or.inl rfl) rfl hk ?_
  refine S_iload_n (dc_J0_init_2 26 rfl) rfl ?_
  refine S_ifnF 60 rfl (dc_J0_init_2 27 rfl) rfl ?_
  refine S_aload_n (dc_J0_init_2 28 rfl) rfl ?_
  refine S_null (dc_J0_init_2 29 rfl) ?_
  refine S_putR0 (v := none) (dc_J0_init_2 30 rfl) ho f24 (fun _ _ => rfl) (Or.inl rfl) rfl hk ?_
  refine S_vret (dc_J0_init_2 31 rfl) hT (fun q => ?_)
  rw [hr]
  congr 1
  refine Prod.ext rfl (Prod.ext rfl (Prod.ext rfl (Prod.ext ?_ rfl)))
  funext b j
  show e_R h b j = e_R (e_sR (e_sR (e_sR (e_sR (e_sR (e_sR (e_sR h a0 0 (some a0)) a0 1 r1) a0 2 r2) a0 1 none) a0 3 none) a0 0 none) a0 2 none) b j
  simp only [e_R_sR]
  by_cases hb : b = a0
  · subst hb
    by_cases j0 : j = 0
    · subst j0; simp [z0]
    · by_cases j1 : j = 1
      · subst j1; simp [z1]
      · by_cases j2 : j = 2
        · subst j2; simp [z2]
        · by_cases j3 : j = 3
          · subst j3; simp [z3]
          · simp [j0, j1, j2, j3]
  · simp [hb]
theorem ct_J1_init {l : Launch} {D : e_D} {B : Heap} {d : Nat} {h : e_H} {a0 : Nat} (hk : e_k h a0 = some (.inl 1)) (z0 : e_R h a0 0 = none) (z1 : e_R h a0 1 = none) (z2 : e_R h a0 2 = none) (z3 : e_R h a0 3 = none) (hd : 4 ≤ d) : e_Run l D B d mJ1_init [.ref a0, .null, .null, .int 0, .int 0] h (.ok none, h) := by
  refine e_start [some (.ref a0), some .null, some .null, some (.int 0), some (.int 0)] (by decide) rfl rfl rfl (Nat.le_of_ble_eq_true rfl) (fun K hl0 hD0 hB0 hM hd0 hr => ?_)
  subst hl0 hD0 hB0 hd0
  have ho : (k_M K).1.cls = "java/lang/Exception" := by rw [hM]; rfl
  have hT : (k_M K).2.2.2.1 = none := by rw [hM]
  refine (show Sx K cJ1_init 0 [some (.ref a0), some .null, some .null, some (.int 0), some (.int 0)] [] h ((some h).bind fun _ => some ()) (fun w => w = ()) from ?_) _ rfl rfl
  refine S_aload_n (dc_J1_init 0 rfl) rfl ?_
  refine S_aloadZ_n (dc_J1_init 1 rfl) rfl ?_
  refine S_aloadZ_n (dc_J1_init 2 rfl) rfl ?_
  refine S_iload_n (dc_J1_init 3 rfl) rfl ?_
  refine S_iload (dc_J1_init 4 rfl) rfl ?_
  refine S_rwV (d := k_d K - 1) (e_callI (b := a0) (As := [.null, .null, .int 0, .int 0]) (rest := []) ok_J0_init_2 rfl rfl rfl (Nat.le_of_ble_eq_true rfl) (dc_J1_init 5 rfl) ho q187 q188 rfl (Nat.le_of_ble_eq_true rfl)) (by omega) (fun _ e => by cases e; exact ct_J0_init_2 hk z0 z1 z2 z3 (by omega)) (fun h1 e => ?_)
  cases e
  exact S_vret (dc_J1_init 6 rfl) hT (fun q => hr)
def f_X2_init (h : e_H) (a0 : Nat) : Option e_H := if e_k h a0 = some (.inl 1) ∧ e_R h a0 0 = none ∧ e_R h a0 1 = none ∧ e_R h a0 2 = none ∧ e_R h a0 3 = none then some h else none
theorem ct_X2_init {l : Launch} {D : e_D} {B : Heap} {d : Nat} {h : e_H} {a0 : Nat} {h1 : e_H} (hd : 6 ≤ d) (e : f_X2_init h a0 = some h1) : e_Run l D B d mX2_init [.ref a0] h (.ok none, h1) := by
  unfold f_X2_init at e
  split at e
  · rename_i hz
    cases e
    obtain ⟨hk, z0, z1, z2, z3⟩ := hz
    refine e_start [some (.ref a0)] (by decide) rfl rfl rfl (Nat.le_of_ble_eq_true rfl) (fun K hl0 hD0 hB0 hM hd0 hr => ?_)
    subst hl0 hD0 hB0 hd0
    have ho : (k_M K).1.cls = "PegBands$Fault" := by rw [hM]; rfl
    have hT : (k_M K).2.2.2.1 = none := by rw [hM]
    refine (show Sx K cX2_init 0 [some (.ref a0)] [] h ((some h).bind fun _ => some ()) (fun w => w = ()) from ?_) _ rfl rfl
    refine S_aload_n (dc_X2_init 0 rfl) rfl ?_
    refine S_null (dc_X2_init 1 rfl) ?_
    refine S_null (dc_X2_init 2 rfl) ?_
    refine S_iconst_ 0 (dc_X2_init 3 rfl) rfl ?_
    refine S_iconst_ 0 (dc_X2_init 4 rfl) rfl ?_
    refine S_rwV (d := k_d K - 1) (e_callI (b := a0) (As := [.null, .null, .int 0, .int 0]) (rest := []) ok_J1_init rfl rfl rfl (Nat.le_of_ble_eq_true rfl) (dc_X2_init 5 rfl) ho q184 q185 rfl (Nat.le_of_ble_eq_true rfl)) (by omega) (fun _ e => by cases e; exact ct_J1_init hk z0 z1 z2 z3 (by omega)) (fun h1 e => ?_)
    cases e
    exact S_vret (dc_X2_init 6 rfl) hT (fun q => hr)
  · cases e
def f_X1_must (h : e_H) (a0 : Int32) : Option (Except (Nat × Nat) Unit × e_H) := if a0 = 0 then e_bumpb h 6 (fun q h1 => some (Except.error (1, q), h1)) else some (.ok (), h)
theorem e_mustW : (vx_at0 "PegBands" 166 "java/util/NoSuchElementException" ["java/lang/RuntimeException", "java/lang/Exception"]).all (fun w => decide (w ∈ lw_all) || (decide (w ∈ lw_tbl) && e_nw w)) = true := by decide +kernel
theorem ct_X1_must {l : Launch} {D : e_D} {B : Heap} {d : Nat} {h : e_H} {a0 : Int32} {o : Except (Nat × Nat) Unit} {h1 : e_H} (hl : l.stackTraces = false) (hd : 8 ≤ d) (e : f_X1_must h a0 = some (o, h1)) : e_Run l D B d mX1_must [.int a0] h (o.map (fun _ => none), h1) := by
  refine e_start [some (.int a0)] (by decide) rfl rfl rfl (Nat.le_of_ble_eq_true rfl) (fun K hl0 hD0 hB0 hM hd0 hr => ?_)
  subst hl0 hD0 hB0 hd0
  have ho : (k_M K).1.cls = "PegBands" := by rw [hM]; rfl
  have hT : (k_M K).2.2.2.1 = none := by rw [hM]
  have hX : ∀ pc, ∀ z ∈ tableOf (k_M K).2.2.2.2, covers z pc = false := by rw [hM]; intro pc z hz; cases hz
  refine (show Sx K cX1_must 0 [some (.int a0)] [] h (f_X1_must h a0) (fun w => w = (o, h1)) from ?_) _ e rfl
  clear e
  unfold f_X1_must
  refine S_iload_n (dc_X1_must 0 rfl) rfl ?_
  refine S_if_ne 12 (dc_X1_must 1 rfl) rfl (fun c => ?_) (fun c => ?_)
  · exact S_vret (dc_X1_must 6 rfl) hT (fun q => by cases q; exact hr)
  · refine S_throw0 (x := 1) (names := ["java/lang/RuntimeException", "java/lang/Exception"]) (Z := fun q h1 => some (Except.error (1, q), h1)) ho hl (by decide +kernel) (by decide +kernel) q1439 q126 (fun w hw => ?_) q1440 (by decide +kernel) (dc_X1_must 2 rfl) (dc_X1_must 3 rfl) (dc_X1_must 4 rfl) (dc_X1_must 5 rfl) (by show 2 + 4 ≤ _; omega) (Nat.le_of_ble_eq_true rfl) ?_
    · have := List.all_eq_true.mp e_mustW w hw
      simpa using this
    · exact SxX.out (hX _) (fun q => by cases q; exact hr)

