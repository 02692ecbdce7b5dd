/-! ENGINE 3: rows, an instruction each -/
section ROWS
theorem e_lift {K : e_C} {cc : ByteArray} {pc pc2 : Nat} {L L2 : List (Option Value)} {st st2 : List Value} {h : e_H} (k : e_g K cc pc2 L2 st2 h) (f : e_W K cc pc2 L2 st2 h → e_W K cc pc L st h) : e_g K cc pc L st h := ⟨k.1, f k.2⟩
theorem e_set_lt {L L' : List (Option Value)} {i : Nat} {v : Value} (hL : e_set L i v = some L') : i < L.length := by
  unfold e_set at hL
  split at hL
  · assumption
  · cases hL
theorem e_setL_lt {L L' : List (Option Value)} {i : Nat} {v : Value} (hL : e_setL L i v = some L') : i + 1 < L.length := by
  unfold e_setL at hL
  split at hL
  · assumption
  · cases hL
variable {K : e_C} {cc : ByteArray} {pc : Nat} {L : List (Option Value)} {st : List Value} {h : e_H} {α : Type} {X : Option α} {Q : α → Prop}
theorem S_iconst {n : Int} (hd : decode cc pc = .ok (.iconst n, 1)) (k : Sx K cc (pc + 1) L (.int (Int32.ofInt n) :: st) h X Q) : Sx K cc pc L (st) h X Q := by
  intro v9 e9 q9
  refine e_lift (k v9 e9 q9) ?_
  intro W9 p e R s m args below meth c E l ls H locs a1 a2 a3 a4
  exact lv_iconst E.1 E.2.1 hd rfl (W9 E l ls H locs a1 a2 a3 a4)
theorem S_bipush {n : Int} (hd : decode cc pc = .ok (.bipush n, 2)) (k : Sx K cc (pc + 2) L (.int (Int8.ofInt n).toInt32 :: st) h X Q) : Sx K cc pc L (st) h X Q := by
  intro v9 e9 q9
  refine e_lift (k v9 e9 q9) ?_
  intro W9 p e R s m args below meth c E l ls H locs a1 a2 a3 a4
  exact lv_bipush E.1 E.2.1 hd rfl (W9 E l ls H locs a1 a2 a3 a4)
theorem S_sipush {n : Int} (hd : decode cc pc = .ok (.sipush n, 3)) (k : Sx K cc (pc + 3) L (.int (Int16.ofInt n).toInt32 :: st) h X Q) : Sx K cc pc L (st) h X Q := by
  intro v9 e9 q9
  refine e_lift (k v9 e9 q9) ?_
  intro W9 p e R s m args below meth c E l ls H locs a1 a2 a3 a4
  exact lv_sipush E.1 E.2.1 hd rfl (W9 E l ls H locs a1 a2 a3 a4)
theorem S_iconst_ {n : Int} (v : Int32) (hd : decode cc pc = .ok (.iconst n, 1)) (hv : Int32.ofInt n = v) (k : Sx K cc (pc + 1) L (.int v :: st) h X Q) : Sx K cc pc L (st) h X Q := by
  intro v9 e9 q9
  refine e_lift (k v9 e9 q9) ?_
  intro W9 p e R s m args below meth c E l ls H locs a1 a2 a3 a4
  exact lv_iconst E.1 E.2.1 hd hv (W9 E l ls H locs a1 a2 a3 a4)
theorem S_bipush_ {n : Int} (v : Int32) (hd : decode cc pc = .ok (.bipush n, 2)) (hv : (Int8.ofInt n).toInt32 = v) (k : Sx K cc (pc + 2) L (.int v :: st) h X Q) : Sx K cc pc L (st) h X Q := by
  intro v9 e9 q9
  refine e_lift (k v9 e9 q9) ?_
  intro W9 p e R s m args below meth c E l ls H locs a1 a2 a3 a4
  exact lv_bipush E.1 E.2.1 hd hv (W9 E l ls H locs a1 a2 a3 a4)
theorem S_sipush_ {n : Int} (v : Int32) (hd : decode cc pc = .ok (.sipush n, 3)) (hv : (Int16.ofInt n).toInt32 = v) (k : Sx K cc (pc + 3) L (.int v :: st) h X Q) : Sx K cc pc L (st) h X Q := by
  intro v9 e9 q9
  refine e_lift (k v9 e9 q9) ?_
  intro W9 p e R s m args below meth c E l ls H locs a1 a2 a3 a4
  exact lv_sipush E.1 E.2.1 hd hv (W9 E l ls H locs a1 a2 a3 a4)
theorem S_lconst_ {n : Fin 2} (v : Int64) (hd : decode cc pc = .ok (.lconst n, 1)) (hv : Int64.ofNat (n : Nat) = v) (k : Sx K cc (pc + 1) L (.long v :: st) h X Q) : Sx K cc pc L (st) h X Q := by
  intro v9 e9 q9
  refine e_lift (k v9 e9 q9) ?_
  intro W9 p e R s m args below meth c E l ls H locs a1 a2 a3 a4
  exact lv_lconst E.1 E.2.1 hd hv (W9 E l ls H locs a1 a2 a3 a4)
theorem S_null (hd : decode cc pc = .ok (.aconst_null, 1)) (k : Sx K cc (pc + 1) L (.null :: st) h X Q) : Sx K cc pc L (st) h X Q := by
  intro v9 e9 q9
  refine e_lift (k v9 e9 q9) ?_
  intro W9 p e R s m args below meth c E l ls H locs a1 a2 a3 a4
  exact lv_null E.1 E.2.1 hd (W9 E l ls H locs a1 a2 a3 a4)
theorem S_ldc {own : String} {i : Nat} (v : Int32) (hd : decode cc pc = .ok (.ldc i, 2)) (hown : (k_M K).1.cls = own) (hw : Cond.constant own i v ∈ lw_all) (k : Sx K cc (pc + 2) L (.int v :: st) h X Q) : Sx K cc pc L (st) h X Q := by
  intro v9 e9 q9
  refine e_lift (k v9 e9 q9) ?_
  intro W9 p e R s m args below meth c E l ls H locs a1 a2 a3 a4
  exact lv_ldc E.1 E.2.1 (hown ▸ E.2.2.2.2.2.1) (E.2.2.2.2.1 _ hw) hd (W9 E l ls H locs a1 a2 a3 a4)
theorem S_ldcw {own : String} {i : Nat} (v : Int32) (hd : decode cc pc = .ok (.ldc_w i, 3)) (hown : (k_M K).1.cls = own) (hw : Cond.constant own i v ∈ lw_all) (k : Sx K cc (pc + 3) L (.int v :: st) h X Q) : Sx K cc pc L (st) h X Q := by
  intro v9 e9 q9
  refine e_lift (k v9 e9 q9) ?_
  intro W9 p e R s m args below meth c E l ls H locs a1 a2 a3 a4
  exact lv_ldcw E.1 E.2.1 (hown ▸ E.2.2.2.2.2.1) (E.2.2.2.2.1 _ hw) hd (W9 E l ls H locs a1 a2 a3 a4)
theorem S_ldc2 {own : String} {i : Nat} (v : Int64) (hd : decode cc pc = .ok (.ldc2_w i, 3)) (hown : (k_M K).1.cls = own) (hw : Cond.constantLong own i v ∈ lw_all) (k : Sx K cc (pc + 3) L (.long v :: st) h X Q) : Sx K cc pc L (st) h X Q := by
  intro v9 e9 q9
  refine e_lift (k v9 e9 q9) ?_
  intro W9 p e R s m args below meth c E l ls H locs a1 a2 a3 a4
  exact lv_ldc2 E.1 E.2.1 (hown ▸ E.2.2.2.2.2.1) (E.2.2.2.2.1 _ hw) hd (W9 E l ls H locs a1 a2 a3 a4)
theorem S_ldcS0 {own tx : String} {i j : Nat} (hd : decode cc pc = .ok (.ldc i, 2)) (hown : (k_M K).1.cls = own) (hw : (own, i, tx, j) ∈ e_strs) (k : Sx K cc (pc + 2) L (.ref ((k_D K).2.2.1 j) :: st) h X Q) : Sx K cc pc L (st) h X Q := by
  intro v9 e9 q9
  refine e_lift (k v9 e9 q9) ?_
  intro W9 p e R s m args below meth c E l ls H locs a1 a2 a3 a4
  exact va_ldcS E.1 E.2.1 (hown ▸ E.2.2.2.2.2.1) (E.2.2.2.2.2.2.2.2.2.1.2.2.2.2.2.2.2.1 _ hw) hd (W9 E l ls H locs a1 a2 a3 a4)
theorem S_ldcS {A : Nat → Nat} {own tx : String} {i j : Nat} (hA : (k_D K).2.2.1 = A) (hd : decode cc pc = .ok (.ldc i, 2)) (hown : (k_M K).1.cls = own) (hw : (own, i, tx, j) ∈ e_strs) (k : Sx K cc (pc + 2) L (.ref (A j) :: st) h X Q) : Sx K cc pc L st h X Q := by
  subst hA
  exact S_ldcS0 hd hown hw k
theorem S_iload_n {i : Fin 4} {x : Int32} (hd : decode cc pc = .ok (.iload_n i, 1)) (hl : L[(i : Nat)]? = some (some (.int x))) (k : Sx K cc (pc + 1) L (.int x :: st) h X Q) : Sx K cc pc L (st) h X Q := by
  intro v9 e9 q9
  refine e_lift (k v9 e9 q9) ?_
  intro W9 p e R s m args below meth c E l ls H locs a1 a2 a3 a4
  exact lv_iload_n E.1 E.2.1 hd rfl (a1.get hl) (W9 E l ls H locs a1 a2 a3 a4)
theorem S_iload {i : Nat} {x : Int32} (hd : decode cc pc = .ok (.iload i, 2)) (hl : L[i]? = some (some (.int x))) (k : Sx K cc (pc + 2) L (.int x :: st) h X Q) : Sx K cc pc L (st) h X Q := by
  intro v9 e9 q9
  refine e_lift (k v9 e9 q9) ?_
  intro W9 p e R s m args below meth c E l ls H locs a1 a2 a3 a4
  exact lv_iload E.1 E.2.1 hd (a1.get hl) (W9 E l ls H locs a1 a2 a3 a4)
theorem S_lload_n {i : Fin 4} {x : Int64} (hd : decode cc pc = .ok (.lload_n i, 1)) (hl : L[(i : Nat)]? = some (some (.long x))) (k : Sx K cc (pc + 1) L (.long x :: st) h X Q) : Sx K cc pc L (st) h X Q := by
  intro v9 e9 q9
  refine e_lift (k v9 e9 q9) ?_
  intro W9 p e R s m args below meth c E l ls H locs a1 a2 a3 a4
  exact lv_lload_n E.1 E.2.1 hd rfl (a1.get hl) (W9 E l ls H locs a1 a2 a3 a4)
theorem S_lload {i : Nat} {x : Int64} (hd : decode cc pc = .ok (.lload i, 2)) (hl : L[i]? = some (some (.long x))) (k : Sx K cc (pc + 2) L (.long x :: st) h X Q) : Sx K cc pc L (st) h X Q := by
  intro v9 e9 q9
  refine e_lift (k v9 e9 q9) ?_
  intro W9 p e R s m args below meth c E l ls H locs a1 a2 a3 a4
  exact lv_lload E.1 E.2.1 hd (a1.get hl) (W9 E l ls H locs a1 a2 a3 a4)
theorem S_aload_n {i : Fin 4} {x : Nat} (hd : decode cc pc = .ok (.aload_n i, 1)) (hl : L[(i : Nat)]? = some (some (.ref x))) (k : Sx K cc (pc + 1) L (.ref x :: st) h X Q) : Sx K cc pc L (st) h X Q := by
  intro v9 e9 q9
  refine e_lift (k v9 e9 q9) ?_
  intro W9 p e R s m args below meth c E l ls H locs a1 a2 a3 a4
  exact lv_aload_n E.1 E.2.1 hd rfl (a1.get hl) (W9 E l ls H locs a1 a2 a3 a4)
theorem S_aload {i : Nat} {x : Nat} (hd : decode cc pc = .ok (.aload i, 2)) (hl : L[i]? = some (some (.ref x))) (k : Sx K cc (pc + 2) L (.ref x :: st) h X Q) : Sx K cc pc L (st) h X Q := by
  intro v9 e9 q9
  refine e_lift (k v9 e9 q9) ?_
  intro W9 p e R s m args below meth c E l ls H locs a1 a2 a3 a4
  exact lv_aload E.1 E.2.1 hd (a1.get hl) (W9 E l ls H locs a1 a2 a3 a4)
theorem S_istore_n {i : Fin 4} {x : Int32} {L' : List (Option Value)} (hd : decode cc pc = .ok (.istore_n i, 1)) (hL : e_set L (i : Nat) (.int x) = some L') (k : Sx K cc (pc + 1) L' st h X Q) : Sx K cc pc L (.int x :: st) h X Q := by
  intro v9 e9 q9
  refine e_lift (k v9 e9 q9) ?_
  intro W9 p e R s m args below meth c E l ls H locs a1 a2 a3 a4
  have hi : (i : Nat) < L.length := e_set_lt hL
  refine lv_istore_n E.1 E.2.1 hd rfl a1 hi rfl (fun ls2 h2 => ?_)
  obtain ⟨b1, b2, -⟩ := e_Loc.put hL h2
  exact W9 E l ls2 H locs b1 (b2.trans a2) a3 a4
theorem S_istore {i : Nat} {x : Int32} {L' : List (Option Value)} (hd : decode cc pc = .ok (.istore i, 2)) (hL : e_set L i (.int x) = some L') (k : Sx K cc (pc + 2) L' st h X Q) : Sx K cc pc L (.int x :: st) h X Q := by
  intro v9 e9 q9
  refine e_lift (k v9 e9 q9) ?_
  intro W9 p e R s m args below meth c E l ls H locs a1 a2 a3 a4
  have hi : i < L.length := e_set_lt hL
  refine lv_istore E.1 E.2.1 hd  a1 hi rfl (fun ls2 h2 => ?_)
  obtain ⟨b1, b2, -⟩ := e_Loc.put hL h2
  exact W9 E l ls2 H locs b1 (b2.trans a2) a3 a4
theorem S_lstore {i : Nat} {x : Int64} {L' : List (Option Value)} (hd : decode cc pc = .ok (.lstore i, 2)) (hL : e_setL L i (.long x) = some L') (k : Sx K cc (pc + 2) L' st h X Q) : Sx K cc pc L (.long x :: st) h X Q := by
  intro v9 e9 q9
  refine e_lift (k v9 e9 q9) ?_
  intro W9 p e R s m args below meth c E l ls H locs a1 a2 a3 a4
  have hi : i + 1 < L.length := e_setL_lt hL
  refine lv_lstore E.1 E.2.1 hd  a1 hi rfl (fun ls2 h2 => ?_)
  obtain ⟨b1, b2, -⟩ := e_Loc.putL hL h2
  exact W9 E l ls2 H locs b1 (b2.trans a2) a3 a4
theorem S_astore_n {i : Fin 4} {x : Nat} {L' : List (Option Value)} (hd : decode cc pc = .ok (.astore_n i, 1)) (hL : e_set L (i : Nat) (.ref x) = some L') (k : Sx K cc (pc + 1) L' st h X Q) : Sx K cc pc L (.ref x :: st) h X Q := by
  intro v9 e9 q9
  refine e_lift (k v9 e9 q9) ?_
  intro W9 p e R s m args below meth c E l ls H locs a1 a2 a3 a4
  have hi : (i : Nat) < L.length := e_set_lt hL
  refine lv_astore_n E.1 E.2.1 hd rfl a1 hi rfl (fun ls2 h2 => ?_)
  obtain ⟨b1, b2, -⟩ := e_Loc.put hL h2
  exact W9 E l ls2 H locs b1 (b2.trans a2) a3 a4
theorem S_astore {i : Nat} {x : Nat} {L' : List (Option Value)} (hd : decode cc pc = .ok (.astore i, 2)) (hL : e_set L i (.ref x) = some L') (k : Sx K cc (pc + 2) L' st h X Q) : Sx K cc pc L (.ref x :: st) h X Q := by
  intro v9 e9 q9
  refine e_lift (k v9 e9 q9) ?_
  intro W9 p e R s m args below meth c E l ls H locs a1 a2 a3 a4
  have hi : i < L.length := e_set_lt hL
  refine lv_astore E.1 E.2.1 hd  a1 hi rfl (fun ls2 h2 => ?_)
  obtain ⟨b1, b2, -⟩ := e_Loc.put hL h2
  exact W9 E l ls2 H locs b1 (b2.trans a2) a3 a4
theorem S_iinc {i : Nat} {n : Int} {x : Int32} (v : Int32) {L' : List (Option Value)} (hd : decode cc pc = .ok (.iinc i n, 3)) (hl : L[i]? = some (some (.int x))) (hv : x + Int32.ofInt n = v) (hL : e_set L i (.int v) = some L') (k : Sx K cc (pc + 3) L' st h X Q) : Sx K cc pc L st h X Q := by
  intro v9 e9 q9
  refine e_lift (k v9 e9 q9) ?_
  intro W9 p e R s m args below meth c E l ls H locs a1 a2 a3 a4
  have hi : i < L.length := e_set_lt hL
  obtain ⟨j, hj⟩ := List.getElem?_of_mem (e_as_mem.mpr (show 0 ≤ (i, Value.int x).1 ∧ L[(i, Value.int x).1 - 0]? = some (some (i, Value.int x).2) from ⟨Nat.zero_le _, by simpa using hl⟩))
  refine lv_iinc (v := v) E.1 E.2.1 hd a1 (k := j) hj hv hi rfl (fun ls2 h2 => ?_)
  obtain ⟨b1, b2, -⟩ := e_Loc.put hL h2
  exact W9 E l ls2 H locs b1 (b2.trans a2) a3 a4
theorem S_iadd {x y : Int32} (hd : decode cc pc = .ok (.iadd, 1)) (k : Sx K cc (pc + 1) L (.int (x + y) :: st) h X Q) : Sx K cc pc L (.int y :: .int x :: st) h X Q := by
  intro v9 e9 q9
  refine e_lift (k v9 e9 q9) ?_
  intro W9 p e R s m args below meth c E l ls H locs a1 a2 a3 a4
  exact lv_iadd E.1 E.2.1 hd (W9 E l ls H locs a1 a2 a3 a4)
theorem S_isub {x y : Int32} (hd : decode cc pc = .ok (.isub, 1)) (k : Sx K cc (pc + 1) L (.int (x - y) :: st) h X Q) : Sx K cc pc L (.int y :: .int x :: st) h X Q := by
  intro v9 e9 q9
  refine e_lift (k v9 e9 q9) ?_
  intro W9 p e R s m args below meth c E l ls H locs a1 a2 a3 a4
  exact lv_isub E.1 E.2.1 hd (W9 E l ls H locs a1 a2 a3 a4)
theorem S_imul {x y : Int32} (hd : decode cc pc = .ok (.imul, 1)) (k : Sx K cc (pc + 1) L (.int (x * y) :: st) h X Q) : Sx K cc pc L (.int y :: .int x :: st) h X Q := by
  intro v9 e9 q9
  refine e_lift (k v9 e9 q9) ?_
  intro W9 p e R s m args below meth c E l ls H locs a1 a2 a3 a4
  exact lv_imul E.1 E.2.1 hd (W9 E l ls H locs a1 a2 a3 a4)
theorem S_iand {x y : Int32} (hd : decode cc pc = .ok (.iand, 1)) (k : Sx K cc (pc + 1) L (.int (x &&& y) :: st) h X Q) : Sx K cc pc L (.int y :: .int x :: st) h X Q := by
  intro v9 e9 q9
  refine e_lift (k v9 e9 q9) ?_
  intro W9 p e R s m args below meth c E l ls H locs a1 a2 a3 a4
  exact lv_iand E.1 E.2.1 hd (W9 E l ls H locs a1 a2 a3 a4)
theorem S_ior {x y : Int32} (hd : decode cc pc = .ok (.ior, 1)) (k : Sx K cc (pc + 1) L (.int (x ||| y) :: st) h X Q) : Sx K cc pc L (.int y :: .int x :: st) h X Q := by
  intro v9 e9 q9
  refine e_lift (k v9 e9 q9) ?_
  intro W9 p e R s m args below meth c E l ls H locs a1 a2 a3 a4
  exact lv_ior E.1 E.2.1 hd (W9 E l ls H locs a1 a2 a3 a4)
theorem S_ixor {x y : Int32} (hd : decode cc pc = .ok (.ixor, 1)) (k : Sx K cc (pc + 1) L (.int (x ^^^ y) :: st) h X Q) : Sx K cc pc L (.int y :: .int x :: st) h X Q := by
  intro v9 e9 q9
  refine e_lift (k v9 e9 q9) ?_
  intro W9 p e R s m args below meth c E l ls H locs a1 a2 a3 a4
  exact lv_ixor E.1 E.2.1 hd (W9 E l ls H locs a1 a2 a3 a4)
theorem S_ladd {x y : Int64} (hd : decode cc pc = .ok (.ladd, 1)) (k : Sx K cc (pc + 1) L (.long (x + y) :: st) h X Q) : Sx K cc pc L (.long y :: .long x :: st) h X Q := by
  intro v9 e9 q9
  refine e_lift (k v9 e9 q9) ?_
  intro W9 p e R s m args below meth c E l ls H locs a1 a2 a3 a4
  exact lv_ladd E.1 E.2.1 hd (W9 E l ls H locs a1 a2 a3 a4)
theorem S_lsub {x y : Int64} (hd : decode cc pc = .ok (.lsub, 1)) (k : Sx K cc (pc + 1) L (.long (x - y) :: st) h X Q) : Sx K cc pc L (.long y :: .long x :: st) h X Q := by
  intro v9 e9 q9
  refine e_lift (k v9 e9 q9) ?_
  intro W9 p e R s m args below meth c E l ls H locs a1 a2 a3 a4
  exact lv_lsub E.1 E.2.1 hd (W9 E l ls H locs a1 a2 a3 a4)
theorem S_lmul {x y : Int64} (hd : decode cc pc = .ok (.lmul, 1)) (k : Sx K cc (pc + 1) L (.long (x * y) :: st) h X Q) : Sx K cc pc L (.long y :: .long x :: st) h X Q := by
  intro v9 e9 q9
  refine e_lift (k v9 e9 q9) ?_
  intro W9 p e R s m args below meth c E l ls H locs a1 a2 a3 a4
  exact lv_lmul E.1 E.2.1 hd (W9 E l ls H locs a1 a2 a3 a4)
theorem S_land {x y : Int64} (hd : decode cc pc = .ok (.land, 1)) (k : Sx K cc (pc + 1) L (.long (x &&& y) :: st) h X Q) : Sx K cc pc L (.long y :: .long x :: st) h X Q := by
  intro v9 e9 q9
  refine e_lift (k v9 e9 q9) ?_
  intro W9 p e R s m args below meth c E l ls H locs a1 a2 a3 a4
  exact lv_land E.1 E.2.1 hd (W9 E l ls H locs a1 a2 a3 a4)
theorem S_lor {x y : Int64} (hd : decode cc pc = .ok (.lor, 1)) (k : Sx K cc (pc + 1) L (.long (x ||| y) :: st) h X Q) : Sx K cc pc L (.long y :: .long x :: st) h X Q := by
  intro v9 e9 q9
  refine e_lift (k v9 e9 q9) ?_
  intro W9 p e R s m args below meth c E l ls H locs a1 a2 a3 a4
  exact lv_lor E.1 E.2.1 hd (W9 E l ls H locs a1 a2 a3 a4)
theorem S_lxor {x y : Int64} (hd : decode cc pc = .ok (.lxor, 1)) (k : Sx K cc (pc + 1) L (.long (x ^^^ y) :: st) h X Q) : Sx K cc pc L (.long y :: .long x :: st) h X Q := by
  intro v9 e9 q9
  refine e_lift (k v9 e9 q9) ?_
  intro W9 p e R s m args below meth c E l ls H locs a1 a2 a3 a4
  exact lv_lxor E.1 E.2.1 hd (W9 E l ls H locs a1 a2 a3 a4)
theorem S_idiv {x y : Int32} (hd : decode cc pc = .ok (.idiv, 1)) (hne : ¬ y = 0) (k : Sx K cc (pc + 1) L (.int (x / y) :: st) h X Q) : Sx K cc pc L (.int y :: .int x :: st) h X Q := by
  intro v9 e9 q9
  refine e_lift (k v9 e9 q9) ?_
  intro W9 p e R s m args below meth c E l ls H locs a1 a2 a3 a4
  exact lv_idiv E.1 E.2.1 hd hne (W9 E l ls H locs a1 a2 a3 a4)
theorem S_irem {x y : Int32} (hd : decode cc pc = .ok (.irem, 1)) (hne : ¬ y = 0) (k : Sx K cc (pc + 1) L (.int (x - x / y * y) :: st) h X Q) : Sx K cc pc L (.int y :: .int x :: st) h X Q := by
  intro v9 e9 q9
  refine e_lift (k v9 e9 q9) ?_
  intro W9 p e R s m args below meth c E l ls H locs a1 a2 a3 a4
  exact lv_irem E.1 E.2.1 hd hne (W9 E l ls H locs a1 a2 a3 a4)
theorem S_ineg {x : Int32} (hd : decode cc pc = .ok (.ineg, 1)) (k : Sx K cc (pc + 1) L (.int (-x) :: st) h X Q) : Sx K cc pc L (.int x :: st) h X Q := by
  intro v9 e9 q9
  refine e_lift (k v9 e9 q9) ?_
  intro W9 p e R s m args below meth c E l ls H locs a1 a2 a3 a4
  exact lv_ineg E.1 E.2.1 hd (W9 E l ls H locs a1 a2 a3 a4)
theorem S_ishl {x y : Int32} (hd : decode cc pc = .ok (.ishl, 1)) (k : Sx K cc (pc + 1) L (.int (x <<< (y &&& 31)) :: st) h X Q) : Sx K cc pc L (.int y :: .int x :: st) h X Q := by
  intro v9 e9 q9
  refine e_lift (k v9 e9 q9) ?_
  intro W9 p e R s m args below meth c E l ls H locs a1 a2 a3 a4
  exact lv_ishl E.1 E.2.1 hd (W9 E l ls H locs a1 a2 a3 a4)
theorem S_ishr {x y : Int32} (hd : decode cc pc = .ok (.ishr, 1)) (k : Sx K cc (pc + 1) L (.int (x >>> (y &&& 31)) :: st) h X Q) : Sx K cc pc L (.int y :: .int x :: st) h X Q := by
  intro v9 e9 q9
  refine e_lift (k v9 e9 q9) ?_
  intro W9 p e R s m args below meth c E l ls H locs a1 a2 a3 a4
  exact lv_ishr E.1 E.2.1 hd (W9 E l ls H locs a1 a2 a3 a4)
theorem S_iushr {x y : Int32} (hd : decode cc pc = .ok (.iushr, 1)) (k : Sx K cc (pc + 1) L (.int (x.toUInt32 >>> (y.toUInt32 &&& Int32.toUInt32 31)).toInt32 :: st) h X Q) : Sx K cc pc L (.int y :: .int x :: st) h X Q := by
  intro v9 e9 q9
  refine e_lift (k v9 e9 q9) ?_
  intro W9 p e R s m args below meth c E l ls H locs a1 a2 a3 a4
  exact lv_iushr E.1 E.2.1 hd rfl (W9 E l ls H locs a1 a2 a3 a4)
theorem S_lshl {x : Int64} {y : Int32} (hd : decode cc pc = .ok (.lshl, 1)) (k : Sx K cc (pc + 1) L (.long (x <<< (y.toInt64 &&& 63)) :: st) h X Q) : Sx K cc pc L (.int y :: .long x :: st) h X Q := by
  intro v9 e9 q9
  refine e_lift (k v9 e9 q9) ?_
  intro W9 p e R s m args below meth c E l ls H locs a1 a2 a3 a4
  exact lv_lshl E.1 E.2.1 hd rfl (W9 E l ls H locs a1 a2 a3 a4)
theorem S_i2l {x : Int32} (hd : decode cc pc = .ok (.i2l, 1)) (k : Sx K cc (pc + 1) L (.long x.toInt64 :: st) h X Q) : Sx K cc pc L (.int x :: st) h X Q := by
  intro v9 e9 q9
  refine e_lift (k v9 e9 q9) ?_
  intro W9 p e R s m args below meth c E l ls H locs a1 a2 a3 a4
  exact lv_i2l E.1 E.2.1 hd rfl (W9 E l ls H locs a1 a2 a3 a4)
theorem S_l2i {x : Int64} (hd : decode cc pc = .ok (.l2i, 1)) (k : Sx K cc (pc + 1) L (.int x.toInt32 :: st) h X Q) : Sx K cc pc L (.long x :: st) h X Q := by
  intro v9 e9 q9
  refine e_lift (k v9 e9 q9) ?_
  intro W9 p e R s m args below meth c E l ls H locs a1 a2 a3 a4
  exact lv_l2i E.1 E.2.1 hd rfl (W9 E l ls H locs a1 a2 a3 a4)
theorem S_i2b {x : Int32} (hd : decode cc pc = .ok (.i2b, 1)) (k : Sx K cc (pc + 1) L (.int x.toInt8.toInt32 :: st) h X Q) : Sx K cc pc L (.int x :: st) h X Q := by
  intro v9 e9 q9
  refine e_lift (k v9 e9 q9) ?_
  intro W9 p e R s m args below meth c E l ls H locs a1 a2 a3 a4
  exact lv_i2b E.1 E.2.1 hd rfl (W9 E l ls H locs a1 a2 a3 a4)
theorem S_i2c {x : Int32} (hd : decode cc pc = .ok (.i2c, 1)) (k : Sx K cc (pc + 1) L (.int (x.toUInt32 % 65536).toInt32 :: st) h X Q) : Sx K cc pc L (.int x :: st) h X Q := by
  intro v9 e9 q9
  refine e_lift (k v9 e9 q9) ?_
  intro W9 p e R s m args below meth c E l ls H locs a1 a2 a3 a4
  exact lv_i2c E.1 E.2.1 hd rfl (W9 E l ls H locs a1 a2 a3 a4)
theorem S_lcmp {x y : Int64} (hd : decode cc pc = .ok (.lcmp, 1)) (k : Sx K cc (pc + 1) L (.int (lg_cmp x y) :: st) h X Q) : Sx K cc pc L (.long y :: .long x :: st) h X Q := by
  intro v9 e9 q9
  refine e_lift (k v9 e9 q9) ?_
  intro W9 p e R s m args below meth c E l ls H locs a1 a2 a3 a4
  exact W.lcmp E.1 E.2.1 hd (W9 E l ls H locs a1 a2 a3 a4)
theorem S_dup {w : Value} (hd : decode cc pc = .ok (.dup, 1)) (hc : w.category = 1) (k : Sx K cc (pc + 1) L (w :: w :: st) h X Q) : Sx K cc pc L (w :: st) h X Q := by
  intro v9 e9 q9
  refine e_lift (k v9 e9 q9) ?_
  intro W9 p e R s m args below meth c E l ls H locs a1 a2 a3 a4
  exact lv_dup E.1 E.2.1 hd hc (W9 E l ls H locs a1 a2 a3 a4)
theorem S_pop {w : Value} (hd : decode cc pc = .ok (.pop, 1)) (hc : w.category = 1) (k : Sx K cc (pc + 1) L (st) h X Q) : Sx K cc pc L (w :: st) h X Q := by
  intro v9 e9 q9
  refine e_lift (k v9 e9 q9) ?_
  intro W9 p e R s m args below meth c E l ls H locs a1 a2 a3 a4
  exact lv_pop E.1 E.2.1 hd hc (W9 E l ls H locs a1 a2 a3 a4)
theorem S_dup2 {w z : Value} (hd : decode cc pc = .ok (.dup2, 1)) (hc : w.category = 1) (hz : z.category = 1) (k : Sx K cc (pc + 1) L (w :: z :: w :: z :: st) h X Q) : Sx K cc pc L (w :: z :: st) h X Q := by
  intro v9 e9 q9
  refine e_lift (k v9 e9 q9) ?_
  intro W9 p e R s m args below meth c E l ls H locs a1 a2 a3 a4
  exact lv_dup2_11 E.1 E.2.1 hd hc hz (W9 E l ls H locs a1 a2 a3 a4)
theorem S_dup2L {w : Value} (hd : decode cc pc = .ok (.dup2, 1)) (hc : w.category = 2) (k : Sx K cc (pc + 1) L (w :: w :: st) h X Q) : Sx K cc pc L (w :: st) h X Q := by
  intro v9 e9 q9
  refine e_lift (k v9 e9 q9) ?_
  intro W9 p e R s m args below meth c E l ls H locs a1 a2 a3 a4
  exact lv_dup2_2 E.1 E.2.1 hd hc (W9 E l ls H locs a1 a2 a3 a4)
theorem S_goto {off : Int} (tgt : Nat) (hd : decode cc pc = .ok (.goto off, 3)) (ht : (pc : Int) + off = (tgt : Int)) (k : Sx K cc tgt L (st) h X Q) : Sx K cc pc L (st) h X Q := by
  intro v9 e9 q9
  refine e_lift (k v9 e9 q9) ?_
  intro W9 p e R s m args below meth c E l ls H locs a1 a2 a3 a4
  exact lv_goto E.1 E.2.1 hd ht (W9 E l ls H locs a1 a2 a3 a4)
theorem S_if_eq {x : Int32} {off : Int} (tgt : Nat) {Y Z : Option α} (hd : decode cc pc = .ok (.ifCond .eq off, 3)) (ht : (pc : Int) + off = (tgt : Int)) (kt : x = 0 → Sx K cc tgt L st h Y Q) (kf : ¬ x = 0 → Sx K cc (pc + 3) L st h Z Q) : Sx K cc pc L (.int x :: st) h (if x = 0 then Y else Z) Q := by
  intro v9 e9 q9
  by_cases hc : x = 0
  · rw [if_pos hc] at e9
    refine e_lift (kt hc v9 e9 q9) ?_
    intro W9 p e R s m args below meth c E l ls H locs a1 a2 a3 a4
    exact lv_if_eq E.1 E.2.1 hd ht (fun _ => W9 E l ls H locs a1 a2 a3 a4) (fun hn => absurd hc hn)
  · rw [if_neg hc] at e9
    refine e_lift (kf hc v9 e9 q9) ?_
    intro W9 p e R s m args below meth c E l ls H locs a1 a2 a3 a4
    exact lv_if_eq E.1 E.2.1 hd ht (fun hp => absurd hp hc) (fun _ => W9 E l ls H locs a1 a2 a3 a4)
theorem S_icmp_eq {x y : Int32} {off : Int} (tgt : Nat) {Y Z : Option α} (hd : decode cc pc = .ok (.if_icmp .eq off, 3)) (ht : (pc : Int) + off = (tgt : Int)) (kt : x = y → Sx K cc tgt L st h Y Q) (kf : ¬ x = y → Sx K cc (pc + 3) L st h Z Q) : Sx K cc pc L (.int y :: .int x :: st) h (if x = y then Y else Z) Q := by
  intro v9 e9 q9
  by_cases hc : x = y
  · rw [if_pos hc] at e9
    refine e_lift (kt hc v9 e9 q9) ?_
    intro W9 p e R s m args below meth c E l ls H locs a1 a2 a3 a4
    exact lv_icmp_eq E.1 E.2.1 hd ht (fun _ => W9 E l ls H locs a1 a2 a3 a4) (fun hn => absurd hc hn)
  · rw [if_neg hc] at e9
    refine e_lift (kf hc v9 e9 q9) ?_
    intro W9 p e R s m args below meth c E l ls H locs a1 a2 a3 a4
    exact lv_icmp_eq E.1 E.2.1 hd ht (fun hp => absurd hp hc) (fun _ => W9 E l ls H locs a1 a2 a3 a4)
theorem S_if_lt {x : Int32} {off : Int} (tgt : Nat) {Y Z : Option α} (hd : decode cc pc = .ok (.ifCond .lt off, 3)) (ht : (pc : Int) + off = (tgt : Int)) (kt : x < 0 → Sx K cc tgt L st h Y Q) (kf : ¬ x < 0 → Sx K cc (pc + 3) L st h Z Q) : Sx K cc pc L (.int x :: st) h (if x < 0 then Y else Z) Q := by
  intro v9 e9 q9
  by_cases hc : x < 0
  · rw [if_pos hc] at e9
    refine e_lift (kt hc v9 e9 q9) ?_
    intro W9 p e R s m args below meth c E l ls H locs a1 a2 a3 a4
    exact lv_if_lt E.1 E.2.1 hd ht (fun _ => W9 E l ls H locs a1 a2 a3 a4) (fun hn => absurd hc hn)
  · rw [if_neg hc] at e9
    refine e_lift (kf hc v9 e9 q9) ?_
    intro W9 p e R s m args below meth c E l ls H locs a1 a2 a3 a4
    exact lv_if_lt E.1 E.2.1 hd ht (fun hp => absurd hp hc) (fun _ => W9 E l ls H locs a1 a2 a3 a4)
theorem S_icmp_lt {x y : Int32} {off : Int} (tgt : Nat) {Y Z : Option α} (hd : decode cc pc = .ok (.if_icmp .lt off, 3)) (ht : (pc : Int) + off = (tgt : Int)) (kt : x < y → Sx K cc tgt L st h Y Q) (kf : ¬ x < y → Sx K cc (pc + 3) L st h Z Q) : Sx K cc pc L (.int y :: .int x :: st) h (if x < y then Y else Z) Q := by
  intro v9 e9 q9
  by_cases hc : x < y
  · rw [if_pos hc] at e9
    refine e_lift (kt hc v9 e9 q9) ?_
    intro W9 p e R s m args below meth c E l ls H locs a1 a2 a3 a4
    exact lv_icmp_lt E.1 E.2.1 hd ht (fun _ => W9 E l ls H locs a1 a2 a3 a4) (fun hn => absurd hc hn)
  · rw [if_neg hc] at e9
    refine e_lift (kf hc v9 e9 q9) ?_
    intro W9 p e R s m args below meth c E l ls H locs a1 a2 a3 a4
    exact lv_icmp_lt E.1 E.2.1 hd ht (fun hp => absurd hp hc) (fun _ => W9 E l ls H locs a1 a2 a3 a4)
theorem S_if_ge {x : Int32} {off : Int} (tgt : Nat) {Y Z : Option α} (hd : decode cc pc = .ok (.ifCond .ge off, 3)) (ht : (pc : Int) + off = (tgt : Int)) (kt : 0 ≤ x → Sx K cc tgt L st h Y Q) (kf : ¬ 0 ≤ x → Sx K cc (pc + 3) L st h Z Q) : Sx K cc pc L (.int x :: st) h (if 0 ≤ x then Y else Z) Q := by
  intro v9 e9 q9
  by_cases hc : 0 ≤ x
  · rw [if_pos hc] at e9
    refine e_lift (kt hc v9 e9 q9) ?_
    intro W9 p e R s m args below meth c E l ls H locs a1 a2 a3 a4
    exact lv_if_ge E.1 E.2.1 hd ht (fun _ => W9 E l ls H locs a1 a2 a3 a4) (fun hn => absurd hc hn)
  · rw [if_neg hc] at e9
    refine e_lift (kf hc v9 e9 q9) ?_
    intro W9 p e R s m args below meth c E l ls H locs a1 a2 a3 a4
    exact lv_if_ge E.1 E.2.1 hd ht (fun hp => absurd hp hc) (fun _ => W9 E l ls H locs a1 a2 a3 a4)
theorem S_icmp_ge {x y : Int32} {off : Int} (tgt : Nat) {Y Z : Option α} (hd : decode cc pc = .ok (.if_icmp .ge off, 3)) (ht : (pc : Int) + off = (tgt : Int)) (kt : y ≤ x → Sx K cc tgt L st h Y Q) (kf : ¬ y ≤ x → Sx K cc (pc + 3) L st h Z Q) : Sx K cc pc L (.int y :: .int x :: st) h (if y ≤ x then Y else Z) Q := by
  intro v9 e9 q9
  by_cases hc : y ≤ x
  · rw [if_pos hc] at e9
    refine e_lift (kt hc v9 e9 q9) ?_
    intro W9 p e R s m args below meth c E l ls H locs a1 a2 a3 a4
    exact lv_icmp_ge E.1 E.2.1 hd ht (fun _ => W9 E l ls H locs a1 a2 a3 a4) (fun hn => absurd hc hn)
  · rw [if_neg hc] at e9
    refine e_lift (kf hc v9 e9 q9) ?_
    intro W9 p e R s m args below meth c E l ls H locs a1 a2 a3 a4
    exact lv_icmp_ge E.1 E.2.1 hd ht (fun hp => absurd hp hc) (fun _ => W9 E l ls H locs a1 a2 a3 a4)
theorem S_if_gt {x : Int32} {off : Int} (tgt : Nat) {Y Z : Option α} (hd : decode cc pc = .ok (.ifCond .gt off, 3)) (ht : (pc : Int) + off = (tgt : Int)) (kt : 0 < x → Sx K cc tgt L st h Y Q) (kf : ¬ 0 < x → Sx K cc (pc + 3) L st h Z Q) : Sx K cc pc L (.int x :: st) h (if 0 < x then Y else Z) Q := by
  intro v9 e9 q9
  by_cases hc : 0 < x
  · rw [if_pos hc] at e9
    refine e_lift (kt hc v9 e9 q9) ?_
    intro W9 p e R s m args below meth c E l ls H locs a1 a2 a3 a4
    exact lv_if_gt E.1 E.2.1 hd ht (fun _ => W9 E l ls H locs a1 a2 a3 a4) (fun hn => absurd hc hn)
  · rw [if_neg hc] at e9
    refine e_lift (kf hc v9 e9 q9) ?_
    intro W9 p e R s m args below meth c E l ls H locs a1 a2 a3 a4
    exact lv_if_gt E.1 E.2.1 hd ht (fun hp => absurd hp hc) (fun _ => W9 E l ls H locs a1 a2 a3 a4)
theorem S_icmp_gt {x y : Int32} {off : Int} (tgt : Nat) {Y Z : Option α} (hd : decode cc pc = .ok (.if_icmp .gt off, 3)) (ht : (pc : Int) + off = (tgt : Int)) (kt : y < x → Sx K cc tgt L st h Y Q) (kf : ¬ y < x → Sx K cc (pc + 3) L st h Z Q) : Sx K cc pc L (.int y :: .int x :: st) h (if y < x then Y else Z) Q := by
  intro v9 e9 q9
  by_cases hc : y < x
  · rw [if_pos hc] at e9
    refine e_lift (kt hc v9 e9 q9) ?_
    intro W9 p e R s m args below meth c E l ls H locs a1 a2 a3 a4
    exact lv_icmp_gt E.1 E.2.1 hd ht (fun _ => W9 E l ls H locs a1 a2 a3 a4) (fun hn => absurd hc hn)
  · rw [if_neg hc] at e9
    refine e_lift (kf hc v9 e9 q9) ?_
    intro W9 p e R s m args below meth c E l ls H locs a1 a2 a3 a4
    exact lv_icmp_gt E.1 E.2.1 hd ht (fun hp => absurd hp hc) (fun _ => W9 E l ls H locs a1 a2 a3 a4)
theorem S_if_le {x : Int32} {off : Int} (tgt : Nat) {Y Z : Option α} (hd : decode cc pc = .ok (.ifCond .le off, 3)) (ht : (pc : Int) + off = (tgt : Int)) (kt : x ≤ 0 → Sx K cc tgt L st h Y Q) (kf : ¬ x ≤ 0 → Sx K cc (pc + 3) L st h Z Q) : Sx K cc pc L (.int x :: st) h (if x ≤ 0 then Y else Z) Q := by
  intro v9 e9 q9
  by_cases hc : x ≤ 0
  · rw [if_pos hc] at e9
    refine e_lift (kt hc v9 e9 q9) ?_
    intro W9 p e R s m args below meth c E l ls H locs a1 a2 a3 a4
    exact lv_if_le E.1 E.2.1 hd ht (fun _ => W9 E l ls H locs a1 a2 a3 a4) (fun hn => absurd hc hn)
  · rw [if_neg hc] at e9
    refine e_lift (kf hc v9 e9 q9) ?_
    intro W9 p e R s m args below meth c E l ls H locs a1 a2 a3 a4
    exact lv_if_le E.1 E.2.1 hd ht (fun hp => absurd hp hc) (fun _ => W9 E l ls H locs a1 a2 a3 a4)
theorem S_icmp_le {x y : Int32} {off : Int} (tgt : Nat) {Y Z : Option α} (hd : decode cc pc = .ok (.if_icmp .le off, 3)) (ht : (pc : Int) + off = (tgt : Int)) (kt : x ≤ y → Sx K cc tgt L st h Y Q) (kf : ¬ x ≤ y → Sx K cc (pc + 3) L st h Z Q) : Sx K cc pc L (.int y :: .int x :: st) h (if x ≤ y then Y else Z) Q := by
  intro v9 e9 q9
  by_cases hc : x ≤ y
  · rw [if_pos hc] at e9
    refine e_lift (kt hc v9 e9 q9) ?_
    intro W9 p e R s m args below meth c E l ls H locs a1 a2 a3 a4
    exact lv_icmp_le E.1 E.2.1 hd ht (fun _ => W9 E l ls H locs a1 a2 a3 a4) (fun hn => absurd hc hn)
  · rw [if_neg hc] at e9
    refine e_lift (kf hc v9 e9 q9) ?_
    intro W9 p e R s m args below meth c E l ls H locs a1 a2 a3 a4
    exact lv_icmp_le E.1 E.2.1 hd ht (fun hp => absurd hp hc) (fun _ => W9 E l ls H locs a1 a2 a3 a4)
theorem S_if_ne {x : Int32} {off : Int} (tgt : Nat) {Y Z : Option α} (hd : decode cc pc = .ok (.ifCond .ne off, 3)) (ht : (pc : Int) + off = (tgt : Int)) (kt : ¬ x = 0 → Sx K cc tgt L st h Y Q) (kf : x = 0 → Sx K cc (pc + 3) L st h Z Q) : Sx K cc pc L (.int x :: st) h (if x = 0 then Z else Y) Q := by
  intro v9 e9 q9
  by_cases hc : x = 0
  · rw [if_pos hc] at e9
    refine e_lift (kf hc v9 e9 q9) ?_
    intro W9 p e R s m args below meth c E l ls H locs a1 a2 a3 a4
    exact lv_if_ne E.1 E.2.1 hd ht (fun hp => absurd hc hp) (fun _ => W9 E l ls H locs a1 a2 a3 a4)
  · rw [if_neg hc] at e9
    refine e_lift (kt hc v9 e9 q9) ?_
    intro W9 p e R s m args below meth c E l ls H locs a1 a2 a3 a4
    exact lv_if_ne E.1 E.2.1 hd ht (fun _ => W9 E l ls H locs a1 a2 a3 a4) (fun hn => absurd hn hc)
theorem S_icmp_ne {x y : Int32} {off : Int} (tgt : Nat) {Y Z : Option α} (hd : decode cc pc = .ok (.if_icmp .ne off, 3)) (ht : (pc : Int) + off = (tgt : Int)) (kt : ¬ x = y → Sx K cc tgt L st h Y Q) (kf : x = y → Sx K cc (pc + 3) L st h Z Q) : Sx K cc pc L (.int y :: .int x :: st) h (if x = y then Z else Y) Q := by
  intro v9 e9 q9
  by_cases hc : x = y
  · rw [if_pos hc] at e9
    refine e_lift (kf hc v9 e9 q9) ?_
    intro W9 p e R s m args below meth c E l ls H locs a1 a2 a3 a4
    exact lv_icmp_ne E.1 E.2.1 hd ht (fun hp => absurd hc hp) (fun _ => W9 E l ls H locs a1 a2 a3 a4)
  · rw [if_neg hc] at e9
    refine e_lift (kt hc v9 e9 q9) ?_
    intro W9 p e R s m args below meth c E l ls H locs a1 a2 a3 a4
    exact lv_icmp_ne E.1 E.2.1 hd ht (fun _ => W9 E l ls H locs a1 a2 a3 a4) (fun hn => absurd hn hc)
/-- a branch on null: the test says which -/
theorem S_ifnull {off : Int} (tgt : Nat) {r : Option Nat} {Y : Option α} {Z : Nat → Option α} (hd : decode cc pc = .ok (.ifnull off, 3)) (ht : (pc : Int) + off = (tgt : Int)) (kt : Sx K cc tgt L st h Y Q) (kf : ∀ a, r = some a → Sx K cc (pc + 3) L st h (Z a) Q) : Sx K cc pc L (va_rf r :: st) h (match r with | none => Y | some a => Z a) Q := by
  intro v9 e9 q9
  cases r with
  | none =>
    refine e_lift (kt v9 e9 q9) ?_
    intro W9 p e R s m args below meth c E l ls H locs a1 a2 a3 a4
    exact lv_ifnullN E.1 E.2.1 hd ht (W9 E l ls H locs a1 a2 a3 a4)
  | some a =>
    refine e_lift (kf a rfl v9 e9 q9) ?_
    intro W9 p e R s m args below meth c E l ls H locs a1 a2 a3 a4
    exact lv_ifnull E.1 E.2.1 hd (W9 E l ls H locs a1 a2 a3 a4)
theorem S_ifnonnull {off : Int} (tgt : Nat) {r : Option Nat} {Y : Option α} {Z : Nat → Option α} (hd : decode cc pc = .ok (.ifnonnull off, 3)) (ht : (pc : Int) + off = (tgt : Int)) (kt : ∀ a, r = some a → Sx K cc tgt L st h (Z a) Q) (kf : Sx K cc (pc + 3) L st h Y Q) : Sx K cc pc L (va_rf r :: st) h (match r with | none => Y | some a => Z a) Q := by
  intro v9 e9 q9
  cases r with
  | none =>
    refine e_lift (kf v9 e9 q9) ?_
    intro W9 p e R s m args below meth c E l ls H locs a1 a2 a3 a4
    exact lv_ifnonnullN E.1 E.2.1 hd (W9 E l ls H locs a1 a2 a3 a4)
  | some a =>
    refine e_lift (kt a rfl v9 e9 q9) ?_
    intro W9 p e R s m args below meth c E l ls H locs a1 a2 a3 a4
    exact lv_ifnonnull E.1 E.2.1 hd ht (W9 E l ls H locs a1 a2 a3 a4)
/-- nothing is owed where X says nothing -/
theorem Sx.none : Sx K cc pc L st h (Option.none : Option α) Q := fun v e => by cases e
/-- a number gets a name -/
theorem Sx.name {β : Type} {b : β} {Y : β → Option α} (k : ∀ v, b = v → Sx K cc pc L st h (Y v) Q) : Sx K cc pc L st h ((some b).bind Y) Q := k b rfl
/-- what X asks is had -/
theorem Sx.ask {β : Type} {B : Option β} {Y : β → Option α} (k : ∀ v, B = some v → Sx K cc pc L st h (Y v) Q) : Sx K cc pc L st h (B.bind Y) Q := by
  intro v e q
  cases B with
  | none => cases e
  | some b => exact k b rfl v e q
theorem Sx.cond {c : Prop} [Decidable c] {Y : Option α} (k : c → Sx K cc pc L st h Y Q) : Sx K cc pc L st h (if c then Y else Option.none) Q := by
  intro v e q
  by_cases hc : c
  · rw [if_pos hc] at e; exact k hc v e q
  · rw [if_neg hc] at e; cases e
theorem Sx.ncond {c : Prop} [Decidable c] {Y : Option α} (k : ¬ c → Sx K cc pc L st h Y Q) : Sx K cc pc L st h (if c then Option.none else Y) Q := by
  intro v e q
  by_cases hc : c
  · rw [if_pos hc] at e; cases e
  · rw [if_neg hc] at e; exact k hc v e q
theorem e_ne {x c : Int32} (h : ¬ x = c) : x.toInt ≠ c.toInt := fun e => h (Int32.toInt_inj.mp e)
theorem e_neI {x c : Int32} {k : Int} (h : ¬ x = c) (hk : c.toInt = k) : x.toInt ≠ k := fun e => h (Int32.toInt_inj.mp (e.trans hk.symm))
theorem e_lso {x k : Int32} {a o d : Int} {r : List (Int × Int)} (h : ¬ x = k) (hk : k.toInt = a) : Op.lookupswitch.offset ((a, o) :: r) d x.toInt = Op.lookupswitch.offset r d x.toInt := lv_osw h hk
/-- the top of the stack is no null: X says so -/
theorem Sx.nn {r : Option Nat} {Y : Nat → Option α} (k : ∀ a, r = some a → Sx K cc pc L (.ref a :: st) h (Y a) Q) : Sx K cc pc L (va_rf r :: st) h (r.bind Y) Q := by
  intro v e q
  cases r with
  | none => cases e
  | some b => exact k b rfl v e q
/-- a region: what it says goes on to g -/
theorem Sx.reg {β : Type} {B : Option β} {g : β → Option α} (k : ∀ Q1 : β → Prop, (∀ z, Q1 z → ∃ w, g z = some w ∧ Q w) → Sx K cc pc L st h B Q1) : Sx K cc pc L st h (B.bind g) Q := by
  intro v e q
  cases hB : B with
  | none => rw [hB] at e; cases e
  | some b =>
    rw [hB] at e
    exact k (fun z => ∃ w, g z = some w ∧ Q w) (fun z hz => hz) b hB ⟨v, e, q⟩
/-- the region's end -/
theorem Sx.done {β : Type} {z : β} {g : β → Option α} {Q1 : β → Prop} (hQ : ∀ z, Q1 z → ∃ w, g z = some w ∧ Q w) (k : Sx K cc pc L st h (g z) Q) : Sx K cc pc L st h (some z) Q1 := by
  intro v e q
  cases e
  obtain ⟨w, e1, q1⟩ := hQ _ q
  exact k w e1 q1
theorem Sx.eq {X' : Option α} (e : X = X') (k : Sx K cc pc L st h X' Q) : Sx K cc pc L st h X Q := e ▸ k
theorem Sx.loc {L2 : List (Option Value)} (hl : ∀ q ∈ e_as 0 L2, q ∈ e_as 0 L) (hn : L2.length = L.length) (k : Sx K cc pc L2 st h X Q) : Sx K cc pc L st h X Q := by
  intro v9 e9 q9
  refine e_lift (k v9 e9 q9) ?_
  intro W9 p e R s m args below meth c E l ls H locs a1 a2 a3 a4
  exact W9 E l ls H locs ⟨by rw [hn]; exact a1.1, a1.2.1, fun q hq => a1.2.2 q (hl q hq)⟩ (hn.trans a2) a3 a4
/-- fewer known locals, by a mask -/
def e_cut : List (Option Value) → List Bool → List (Option Value)
  | a :: t, b :: u => (match b with | true => a | false => Option.none) :: e_cut t u
  | l, [] => l
  | [], _ => []
theorem e_cut_mem : ∀ (L : List (Option Value)) (m : List Bool) (i : Nat) (q : Nat × Value), q ∈ e_as i (e_cut L m) → q ∈ e_as i L
  | [], [], _, _, h => h
  | [], _ :: _, _, _, h => h
  | _ :: _, [], _, _, h => h
  | none :: t, true :: u, i, q, h => e_cut_mem t u (i + 1) q h
  | none :: t, false :: u, i, q, h => e_cut_mem t u (i + 1) q h
  | some a :: t, true :: u, i, q, h => by
    rcases List.mem_cons.mp h with h | h
    · exact List.mem_cons.mpr (Or.inl h)
    · exact List.mem_cons.mpr (Or.inr (e_cut_mem t u (i + 1) q h))
  | some a :: t, false :: u, i, q, h => List.mem_cons.mpr (Or.inr (e_cut_mem t u (i + 1) q h))
theorem e_cut_len : ∀ (L : List (Option Value)) (m : List Bool), (e_cut L m).length = L.length
  | [], [] => rfl
  | [], _ :: _ => rfl
  | _ :: _, [] => rfl
  | _ :: t, _ :: u => by
    show (e_cut t u).length + 1 = t.length + 1
    rw [e_cut_len t u]
theorem Sx.cut (m : List Bool) (k : Sx K cc pc (e_cut L m) st h X Q) : Sx K cc pc L st h X Q := Sx.loc (fun q hq => e_cut_mem L m 0 q hq) (e_cut_len L m) k
/-- a region that may end elsewhere: .error is the outer region's end -/
def e_bE {ρ σ : Type} (B : Option (Except ρ σ)) (g : σ → Option ρ) : Option ρ := B.bind fun z => match z with
  | .error r => some r
  | .ok s => g s
theorem Sx.regE {β : Type} {B : Option (Except α β)} {g : β → Option α} (k : ∀ Q1 : Except α β → Prop, (∀ z, Q1 (.ok z) → ∃ w, g z = some w ∧ Q w) → (∀ z, Q1 (.error z) → Q z) → Sx K cc pc L st h B Q1) : Sx K cc pc L st h (e_bE B g) Q := by
  intro v e q
  unfold e_bE at e
  cases hB : B with
  | none => rw [hB] at e; cases e
  | some b =>
    rw [hB] at e
    refine k (fun z => match z with | .error r => Q r | .ok s => ∃ w, g s = some w ∧ Q w) (fun z hz => hz) (fun z hz => hz) b hB ?_
    cases b with
    | error r => cases e; exact q
    | ok s => exact ⟨v, e, q⟩
theorem Sx.err {β : Type} {z : α} {Q1 : Except α β → Prop} (hE : ∀ z, Q1 (.error z) → Q z) (k : Sx K cc pc L st h (some z) Q) : Sx K cc pc L st h (some (Except.error z : Except α β)) Q1 := by
  intro v e q
  cases e
  exact k z rfl (hE _ q)
theorem Sx.doneE {β : Type} {z : β} {g : β → Option α} {Q1 : Except α β → Prop} (hQ : ∀ z, Q1 (.ok z) → ∃ w, g z = some w ∧ Q w) (k : Sx K cc pc L st h (g z) Q) : Sx K cc pc L st h (some (Except.ok z : Except α β)) Q1 := by
  intro v e q
  cases e
  obtain ⟨w, e1, q1⟩ := hQ _ q
  exact k w e1 q1
theorem SxX.err {β : Type} {x q : Nat} {z : α} {Q1 : Except α β → Prop} (hE : ∀ z, Q1 (.error z) → Q z) (k : SxX K cc pc L st h x q (some z) Q) : SxX K cc pc L st h x q (some (Except.error z : Except α β)) Q1 := by
  intro v e q
  cases e
  exact k z rfl (hE _ q)
def e_u2 {a b t : Type} (Y : a → b → t) : a × b → t := fun s => Y s.1 s.2
def e_u3 {a b c t : Type} (Y : a → b → c → t) : a × b × c → t := fun s => Y s.1 s.2.1 s.2.2
def e_u4 {a b c d t : Type} (Y : a → b → c → d → t) : a × b × c × d → t := fun s => Y s.1 s.2.1 s.2.2.1 s.2.2.2
def e_u5 {a b c d e t : Type} (Y : a → b → c → d → e → t) : a × b × c × d × e → t := fun s => Y s.1 s.2.1 s.2.2.1 s.2.2.2.1 s.2.2.2.2
def e_u6 {a b c d e f t : Type} (Y : a → b → c → d → e → f → t) : a × b × c × d × e × f → t := fun s => Y s.1 s.2.1 s.2.2.1 s.2.2.2.1 s.2.2.2.2.1 s.2.2.2.2.2
/-- one case of a switch -/
theorem Sx.case {c : Prop} [Decidable c] {Y Z : Option α} (kt : c → Sx K cc pc L st h Y Q) (kf : ¬ c → Sx K cc pc L st h Z Q) : Sx K cc pc L st h (if c then Y else Z) Q := by
  intro v e q
  by_cases hc : c
  · rw [if_pos hc] at e; exact kt hc v e q
  · rw [if_neg hc] at e; exact kf hc v e q
theorem S_tsIn {x c : Int32} {dflt lo hi : Int} {offs : Array Int} {len : Nat} {off : Int} (tgt : Nat) (hx : x = c) (hd : decode cc pc = .ok (.tableswitch dflt lo hi offs, len)) (h1 : ¬ c.toInt < lo) (h2 : ¬ hi < c.toInt) (ho : offs[(c.toInt - lo).toNat]? = some off) (ht : (pc : Int) + off = (tgt : Int)) (k : Sx K cc tgt L st h X Q) : Sx K cc pc L (.int x :: st) h X Q := by
  subst hx
  intro v9 e9 q9
  refine e_lift (k v9 e9 q9) ?_
  intro W9 p e R s m args below meth c E l ls H locs a1 a2 a3 a4
  exact lv_tableIn E.1 E.2.1 hd h1 h2 ho ht (W9 E l ls H locs a1 a2 a3 a4)
theorem S_tsOut {x : Int32} {dflt lo hi : Int} {offs : Array Int} {len : Nat} (tgt : Nat) (hd : decode cc pc = .ok (.tableswitch dflt lo hi offs, len)) (h1 : x.toInt < lo ∨ hi < x.toInt) (ht : (pc : Int) + dflt = (tgt : Int)) (k : Sx K cc tgt L st h X Q) : Sx K cc pc L (.int x :: st) h X Q := by
  intro v9 e9 q9
  refine e_lift (k v9 e9 q9) ?_
  intro W9 p e R s m args below meth c E l ls H locs a1 a2 a3 a4
  exact lv_tableOut E.1 E.2.1 hd h1 ht (W9 E l ls H locs a1 a2 a3 a4)
theorem S_lsw {x : Int32} {dflt : Int} {ps : Array (Int × Int)} {len : Nat} {off : Int} (tgt : Nat) (hd : decode cc pc = .ok (.lookupswitch dflt ps, len)) (hp : (ps.toList.zip (ps.toList.drop 1)).all (fun (a, next) => a.1 < next.1) = true) (ho : Op.lookupswitch.offset ps.toList dflt x.toInt = off) (ht : (pc : Int) + off = (tgt : Int)) (k : Sx K cc tgt L st h X Q) : Sx K cc pc L (.int x :: st) h X Q := by
  intro v9 e9 q9
  refine e_lift (k v9 e9 q9) ?_
  intro W9 p e R s m args below meth c E l ls H locs a1 a2 a3 a4
  exact lv_lookup E.1 E.2.1 hd hp ho ht (W9 E l ls H locs a1 a2 a3 a4)
theorem S_nop_iinc {i : Nat} {n : Int} {x : Int32} (c : Int32) {L' : List (Option Value)} (hd : decode cc pc = .ok (.iinc i n, 3)) (hl : L[i]? = some (some (.int x))) (hc : Int32.ofInt n = c) (hL : e_set L i (.int (x + c)) = some L') (k : Sx K cc (pc + 3) L' st h X Q) : Sx K cc pc L st h X Q := S_iinc (x + c) hd hl (by rw [hc]) hL k
theorem S_aloadZ {i : Nat} (hd : decode cc pc = .ok (.aload i, 2)) (hl : L[i]? = some (some .null)) (k : Sx K cc (pc + 2) L (.null :: st) h X Q) : Sx K cc pc L st h X Q := by
  intro v9 e9 q9
  refine e_lift (k v9 e9 q9) ?_
  intro W9 p e R s m args below meth c E l ls H locs a1 a2 a3 a4
  exact lv_aloadN E.1 E.2.1 hd (a1.get hl) (W9 E l ls H locs a1 a2 a3 a4)
theorem S_aloadZ_n {i : Fin 4} (hd : decode cc pc = .ok (.aload_n i, 1)) (hl : L[(i : Nat)]? = some (some .null)) (k : Sx K cc (pc + 1) L (.null :: st) h X Q) : Sx K cc pc L st h X Q := by
  intro v9 e9 q9
  refine e_lift (k v9 e9 q9) ?_
  intro W9 p e R s m args below meth c E l ls H locs a1 a2 a3 a4
  exact lv_aload_nN E.1 E.2.1 hd rfl (a1.get hl) (W9 E l ls H locs a1 a2 a3 a4)
theorem Sx.regK0  {B : Option (Unit)} {Y : Option α} {pc2 : Nat} {L2 : List (Option Value)} {st2 : List Value} {h2 : e_H} (kK : Sx K cc pc2 (L2) (st2) (h2) (Y) Q) (k : ∀ Q1 : Unit → Prop, (Sx K cc pc2 (L2) (st2) (h2) (some ()) Q1) → Sx K cc pc L st h B Q1) : Sx K cc pc L st h (Option.bind B (fun _ => Y)) Q :=
  Sx.reg (fun Q1 hQ => k Q1 (Sx.done hQ (kK)))
theorem Sx.regKE0  {B : Option (Except α (Unit))} {Y : Option α} {pc2 : Nat} {L2 : List (Option Value)} {st2 : List Value} {h2 : e_H} (kK : Sx K cc pc2 (L2) (st2) (h2) (Y) Q) (k : ∀ Q1 : Except α (Unit) → Prop, (Sx K cc pc2 (L2) (st2) (h2) (some (Except.ok ())) Q1) → (∀ z, Q1 (.error z) → Q z) → Sx K cc pc L st h B Q1) : Sx K cc pc L st h (e_bE B (fun _ => Y)) Q :=
  Sx.regE (fun Q1 hQ hE => k Q1 (Sx.doneE hQ (kK)) hE)
theorem Sx.regK1 {b0 : Type} {B : Option (b0)} {Y : b0 → Option α} {pc2 : Nat} {L2 : b0 → List (Option Value)} {st2 : b0 → List Value} {h2 : b0 → e_H} (kK : ∀ z0, Sx K cc pc2 (L2 z0) (st2 z0) (h2 z0) (Y z0) Q) (k : ∀ Q1 : b0 → Prop, (∀ z0, Sx K cc pc2 (L2 z0) (st2 z0) (h2 z0) (some z0) Q1) → Sx K cc pc L st h B Q1) : Sx K cc pc L st h (Option.bind B Y) Q :=
  Sx.reg (fun Q1 hQ => k Q1 (fun z0 => Sx.done hQ (kK z0)))
theorem Sx.regKE1 {b0 : Type} {B : Option (Except α (b0))} {Y : b0 → Option α} {pc2 : Nat} {L2 : b0 → List (Option Value)} {st2 : b0 → List Value} {h2 : b0 → e_H} (kK : ∀ z0, Sx K cc pc2 (L2 z0) (st2 z0) (h2 z0) (Y z0) Q) (k : ∀ Q1 : Except α (b0) → Prop, (∀ z0, Sx K cc pc2 (L2 z0) (st2 z0) (h2 z0) (some (Except.ok z0)) Q1) → (∀ z, Q1 (.error z) → Q z) → Sx K cc pc L st h B Q1) : Sx K cc pc L st h (e_bE B Y) Q :=
  Sx.regE (fun Q1 hQ hE => k Q1 (fun z0 => Sx.doneE hQ (kK z0)) hE)
theorem Sx.regK2 {b0 : Type} {b1 : Type} {B : Option (b0 × b1)} {Y : b0 → b1 → Option α} {pc2 : Nat} {L2 : b0 → b1 → List (Option Value)} {st2 : b0 → b1 → List Value} {h2 : b0 → b1 → e_H} (kK : ∀ z0 z1, Sx K cc pc2 (L2 z0 z1) (st2 z0 z1) (h2 z0 z1) (Y z0 z1) Q) (k : ∀ Q1 : (b0 × b1) → Prop, (∀ z0 z1, Sx K cc pc2 (L2 z0 z1) (st2 z0 z1) (h2 z0 z1) (some (z0, z1)) Q1) → Sx K cc pc L st h B Q1) : Sx K cc pc L st h (Option.bind B (e_u2 Y)) Q :=
  Sx.reg (fun Q1 hQ => k Q1 (fun z0 z1 => Sx.done hQ (kK z0 z1)))
theorem Sx.regKE2 {b0 : Type} {b1 : Type} {B : Option (Except α (b0 × b1))} {Y : b0 → b1 → Option α} {pc2 : Nat} {L2 : b0 → b1 → List (Option Value)} {st2 : b0 → b1 → List Value} {h2 : b0 → b1 → e_H} (kK : ∀ z0 z1, Sx K cc pc2 (L2 z0 z1) (st2 z0 z1) (h2 z0 z1) (Y z0 z1) Q) (k : ∀ Q1 : Except α (b0 × b1) → Prop, (∀ z0 z1, Sx K cc pc2 (L2 z0 z1) (st2 z0 z1) (h2 z0 z1) (some (Except.ok (z0, z1))) Q1) → (∀ z, Q1 (.error z) → Q z) → Sx K cc pc L st h B Q1) : Sx K cc pc L st h (e_bE B (e_u2 Y)) Q :=
  Sx.regE (fun Q1 hQ hE => k Q1 (fun z0 z1 => Sx.doneE hQ (kK z0 z1)) hE)
theorem Sx.regK3 {b0 : Type} {b1 : Type} {b2 : Type} {B : Option (b0 × b1 × b2)} {Y : b0 → b1 → b2 → Option α} {pc2 : Nat} {L2 : b0 → b1 → b2 → List (Option Value)} {st2 : b0 → b1 → b2 → List Value} {h2 : b0 → b1 → b2 → e_H} (kK : ∀ z0 z1 z2, Sx K cc pc2 (L2 z0 z1 z2) (st2 z0 z1 z2) (h2 z0 z1 z2) (Y z0 z1 z2) Q) (k : ∀ Q1 : (b0 × b1 × b2) → Prop, (∀ z0 z1 z2, Sx K cc pc2 (L2 z0 z1 z2) (st2 z0 z1 z2) (h2 z0 z1 z2) (some (z0, z1, z2)) Q1) → Sx K cc pc L st h B Q1) : Sx K cc pc L st h (Option.bind B (e_u3 Y)) Q :=
  Sx.reg (fun Q1 hQ => k Q1 (fun z0 z1 z2 => Sx.done hQ (kK z0 z1 z2)))
theorem Sx.regKE3 {b0 : Type} {b1 : Type} {b2 : Type} {B : Option (Except α (b0 × b1 × b2))} {Y : b0 → b1 → b2 → Option α} {pc2 : Nat} {L2 : b0 → b1 → b2 → List (Option Value)} {st2 : b0 → b1 → b2 → List Value} {h2 : b0 → b1 → b2 → e_H} (kK : ∀ z0 z1 z2, Sx K cc pc2 (L2 z0 z1 z2) (st2 z0 z1 z2) (h2 z0 z1 z2) (Y z0 z1 z2) Q) (k : ∀ Q1 : Except α (b0 × b1 × b2) → Prop, (∀ z0 z1 z2, Sx K cc pc2 (L2 z0 z1 z2) (st2 z0 z1 z2) (h2 z0 z1 z2) (some (Except.ok (z0, z1, z2))) Q1) → (∀ z, Q1 (.error z) → Q z) → Sx K cc pc L st h B Q1) : Sx K cc pc L st h (e_bE B (e_u3 Y)) Q :=
  Sx.regE (fun Q1 hQ hE => k Q1 (fun z0 z1 z2 => Sx.doneE hQ (kK z0 z1 z2)) hE)
theorem Sx.regK4 {b0 : Type} {b1 : Type} {b2 : Type} {b3 : Type} {B : Option (b0 × b1 × b2 × b3)} {Y : b0 → b1 → b2 → b3 → Option α} {pc2 : Nat} {L2 : b0 → b1 → b2 → b3 → List (Option Value)} {st2 : b0 → b1 → b2 → b3 → List Value} {h2 : b0 → b1 → b2 → b3 → e_H} (kK : ∀ z0 z1 z2 z3, Sx K cc pc2 (L2 z0 z1 z2 z3) (st2 z0 z1 z2 z3) (h2 z0 z1 z2 z3) (Y z0 z1 z2 z3) Q) (k : ∀ Q1 : (b0 × b1 × b2 × b3) → Prop, (∀ z0 z1 z2 z3, Sx K cc pc2 (L2 z0 z1 z2 z3) (st2 z0 z1 z2 z3) (h2 z0 z1 z2 z3) (some (z0, z1, z2, z3)) Q1) → Sx K cc pc L st h B Q1) : Sx K cc pc L st h (Option.bind B (e_u4 Y)) Q :=
  Sx.reg (fun Q1 hQ => k Q1 (fun z0 z1 z2 z3 => Sx.done hQ (kK z0 z1 z2 z3)))
theorem Sx.regKE4 {b0 : Type} {b1 : Type} {b2 : Type} {b3 : Type} {B : Option (Except α (b0 × b1 × b2 × b3))} {Y : b0 → b1 → b2 → b3 → Option α} {pc2 : Nat} {L2 : b0 → b1 → b2 → b3 → List (Option Value)} {st2 : b0 → b1 → b2 → b3 → List Value} {h2 : b0 → b1 → b2 → b3 → e_H} (kK : ∀ z0 z1 z2 z3, Sx K cc pc2 (L2 z0 z1 z2 z3) (st2 z0 z1 z2 z3) (h2 z0 z1 z2 z3) (Y z0 z1 z2 z3) Q) (k : ∀ Q1 : Except α (b0 × b1 × b2 × b3) → Prop, (∀ z0 z1 z2 z3, Sx K cc pc2 (L2 z0 z1 z2 z3) (st2 z0 z1 z2 z3) (h2 z0 z1 z2 z3) (some (Except.ok (z0, z1, z2, z3))) Q1) → (∀ z, Q1 (.error z) → Q z) → Sx K cc pc L st h B Q1) : Sx K cc pc L st h (e_bE B (e_u4 Y)) Q :=
  Sx.regE (fun Q1 hQ hE => k Q1 (fun z0 z1 z2 z3 => Sx.doneE hQ (kK z0 z1 z2 z3)) hE)
theorem Sx.regK5 {b0 : Type} {b1 : Type} {b2 : Type} {b3 : Type} {b4 : Type} {B : Option (b0 × b1 × b2 × b3 × b4)} {Y : b0 → b1 → b2 → b3 → b4 → Option α} {pc2 : Nat} {L2 : b0 → b1 → b2 → b3 → b4 → List (Option Value)} {st2 : b0 → b1 → b2 → b3 → b4 → List Value} {h2 : b0 → b1 → b2 → b3 → b4 → e_H} (kK : ∀ z0 z1 z2 z3 z4, Sx K cc pc2 (L2 z0 z1 z2 z3 z4) (st2 z0 z1 z2 z3 z4) (h2 z0 z1 z2 z3 z4) (Y z0 z1 z2 z3 z4) Q) (k : ∀ Q1 : (b0 × b1 × b2 × b3 × b4) → Prop, (∀ z0 z1 z2 z3 z4, Sx K cc pc2 (L2 z0 z1 z2 z3 z4) (st2 z0 z1 z2 z3 z4) (h2 z0 z1 z2 z3 z4) (some (z0, z1, z2, z3, z4)) Q1) → Sx K cc pc L st h B Q1) : Sx K cc pc L st h (Option.bind B (e_u5 Y)) Q :=
  Sx.reg (fun Q1 hQ => k Q1 (fun z0 z1 z2 z3 z4 => Sx.done hQ (kK z0 z1 z2 z3 z4)))
theorem Sx.regKE5 {b0 : Type} {b1 : Type} {b2 : Type} {b3 : Type} {b4 : Type} {B : Option (Except α (b0 × b1 × b2 × b3 × b4))} {Y : b0 → b1 → b2 → b3 → b4 → Option α} {pc2 : Nat} {L2 : b0 → b1 → b2 → b3 → b4 → List (Option Value)} {st2 : b0 → b1 → b2 → b3 → b4 → List Value} {h2 : b0 → b1 → b2 → b3 → b4 → e_H} (kK : ∀ z0 z1 z2 z3 z4, Sx K cc pc2 (L2 z0 z1 z2 z3 z4) (st2 z0 z1 z2 z3 z4) (h2 z0 z1 z2 z3 z4) (Y z0 z1 z2 z3 z4) Q) (k : ∀ Q1 : Except α (b0 × b1 × b2 × b3 × b4) → Prop, (∀ z0 z1 z2 z3 z4, Sx K cc pc2 (L2 z0 z1 z2 z3 z4) (st2 z0 z1 z2 z3 z4) (h2 z0 z1 z2 z3 z4) (some (Except.ok (z0, z1, z2, z3, z4))) Q1) → (∀ z, Q1 (.error z) → Q z) → Sx K cc pc L st h B Q1) : Sx K cc pc L st h (e_bE B (e_u5 Y)) Q :=
  Sx.regE (fun Q1 hQ hE => k Q1 (fun z0 z1 z2 z3 z4 => Sx.doneE hQ (kK z0 z1 z2 z3 z4)) hE)
theorem Sx.regK6 {b0 : Type} {b1 : Type} {b2 : Type} {b3 : Type} {b4 : Type} {b5 : Type} {B : Option (b0 × b1 × b2 × b3 × b4 × b5)} {Y : b0 → b1 → b2 → b3 → b4 → b5 → Option α} {pc2 : Nat} {L2 : b0 → b1 → b2 → b3 → b4 → b5 → List (Option Value)} {st2 : b0 → b1 → b2 → b3 → b4 → b5 → List Value} {h2 : b0 → b1 → b2 → b3 → b4 → b5 → e_H} (kK : ∀ z0 z1 z2 z3 z4 z5, Sx K cc pc2 (L2 z0 z1 z2 z3 z4 z5) (st2 z0 z1 z2 z3 z4 z5) (h2 z0 z1 z2 z3 z4 z5) (Y z0 z1 z2 z3 z4 z5) Q) (k : ∀ Q1 : (b0 × b1 × b2 × b3 × b4 × b5) → Prop, (∀ z0 z1 z2 z3 z4 z5, Sx K cc pc2 (L2 z0 z1 z2 z3 z4 z5) (st2 z0 z1 z2 z3 z4 z5) (h2 z0 z1 z2 z3 z4 z5) (some (z0, z1, z2, z3, z4, z5)) Q1) → Sx K cc pc L st h B Q1) : Sx K cc pc L st h (Option.bind B (e_u6 Y)) Q :=
  Sx.reg (fun Q1 hQ => k Q1 (fun z0 z1 z2 z3 z4 z5 => Sx.done hQ (kK z0 z1 z2 z3 z4 z5)))
theorem Sx.regKE6 {b0 : Type} {b1 : Type} {b2 : Type} {b3 : Type} {b4 : Type} {b5 : Type} {B : Option (Except α (b0 × b1 × b2 × b3 × b4 × b5))} {Y : b0 → b1 → b2 → b3 → b4 → b5 → Option α} {pc2 : Nat} {L2 : b0 → b1 → b2 → b3 → b4 → b5 → List (Option Value)} {st2 : b0 → b1 → b2 → b3 → b4 → b5 → List Value} {h2 : b0 → b1 → b2 → b3 → b4 → b5 → e_H} (kK : ∀ z0 z1 z2 z3 z4 z5, Sx K cc pc2 (L2 z0 z1 z2 z3 z4 z5) (st2 z0 z1 z2 z3 z4 z5) (h2 z0 z1 z2 z3 z4 z5) (Y z0 z1 z2 z3 z4 z5) Q) (k : ∀ Q1 : Except α (b0 × b1 × b2 × b3 × b4 × b5) → Prop, (∀ z0 z1 z2 z3 z4 z5, Sx K cc pc2 (L2 z0 z1 z2 z3 z4 z5) (st2 z0 z1 z2 z3 z4 z5) (h2 z0 z1 z2 z3 z4 z5) (some (Except.ok (z0, z1, z2, z3, z4, z5))) Q1) → (∀ z, Q1 (.error z) → Q z) → Sx K cc pc L st h B Q1) : Sx K cc pc L st h (e_bE B (e_u6 Y)) Q :=
  Sx.regE (fun Q1 hQ hE => k Q1 (fun z0 z1 z2 z3 z4 z5 => Sx.doneE hQ (kK z0 z1 z2 z3 z4 z5)) hE)
theorem Sx.nameI {x : Int32} {Y : Int32 → Option α} (k : ∀ v, x = v → Sx K cc pc L (.int v :: st) h (Y v) Q) : Sx K cc pc L (.int x :: st) h (Option.bind (some x) Y) Q := k x rfl
theorem Sx.nameJ {x : Int64} {Y : Int64 → Option α} (k : ∀ v, x = v → Sx K cc pc L (.long v :: st) h (Y v) Q) : Sx K cc pc L (.long x :: st) h (Option.bind (some x) Y) Q := k x rfl
theorem S_iincN {i : Nat} {n : Int} {x : Int32} (c : Int32) {L' : Int32 → List (Option Value)} {Y : Int32 → Option α} (hd : decode cc pc = .ok (.iinc i n, 3)) (hl : L[i]? = some (some (.int x))) (hc : Int32.ofInt n = c) (hL : ∀ v, e_set L i (.int v) = some (L' v)) (k : ∀ v, x + c = v → Sx K cc (pc + 3) (L' v) st h (Y v) Q) : Sx K cc pc L st h (Option.bind (some (x + c)) Y) Q := S_iinc (x + c) hd hl (by rw [hc]) (hL _) (k _ rfl)
end ROWS
