/-! ENGINE 4: rows of the heap -/
section MEM
theorem e_V_I (h : e_H) {ty : FieldType} (ht : ∀ g : e_H, e_V g ty = fun a k => .int (e_I g a k)) (a k : Nat) : e_V h ty a k = .int (e_I h a k) := by rw [ht]
/-- one cell has changed, and the abstract heap with it -/
theorem e_Rel.put {D : e_D} {B : Heap} {h h' : e_H} {H H' : Heap} (hR : e_Rel D B h H) {a : Nat} (hsz : H'.size = H.size) (hoth : ∀ q : Nat, q ≠ a → H'[q]? = H[q]?) (hk : ∀ b, e_k h' b = e_k h b) (hn : e_n h' = e_n h)
    (hV : ∀ (ty : FieldType) (b j : Nat), b ≠ a → e_V h' ty b j = e_V h ty b j) (ha : B.size ≤ a) (hA : e_At D h' H' a) : e_Rel D B h' H' := by
  obtain ⟨r1, r2, r3, r4, r5⟩ := hR
  refine ⟨by rw [hsz, hn]; exact r1, by rw [hn]; exact r2, fun q hq => by rw [hoth q (by omega)]; exact r3 q hq, fun b hb => by rw [hn]; exact r4 b (by rw [← hk]; exact hb), fun b => ?_⟩
  by_cases e : b = a
  · rw [e]; exact hA
  · exact (r5 b).kept (hoth b e) (hk b) (fun ty k => hV ty b k e)
/-- a cell has been made -/
theorem e_Rel.mk {D : e_D} {B : Heap} {h : e_H} {H H' : Heap} {d : e_K} {w : Nat} (hR : e_Rel D B h H) (hsz : H'.size = H.size + 1) (hoth : ∀ q : Nat, q < H.size → H'[q]? = H[q]?) (hA : e_At D (e_mk h d w) H' (e_n h)) : e_Rel D B (e_mk h d w) H' := by
  obtain ⟨r1, r2, r3, r4, r5⟩ := hR
  refine ⟨by rw [hsz, r1]; rfl, by show B.size ≤ e_n h + 1; omega, fun q hq => by rw [hoth q (by omega)]; exact r3 q hq, fun b hb => ?_, fun b => ?_⟩
  · rw [e_k_mk] at hb
    show _ ∧ b < e_n h + 1
    by_cases e : b = e_n h
    · omega
    · rw [if_neg e] at hb
      have := r4 b hb
      omega
  · by_cases e : b = e_n h
    · rw [e]; exact hA
    · by_cases hk : e_k h b = none
      · unfold e_At
        rw [e_k_mk, if_neg e, hk]
        trivial
      · have hb := r4 b hk
        refine (r5 b).kept (hoth b (by omega)) (by rw [e_k_mk, if_neg e]) (fun ty k => ?_)
        unfold e_V
        rw [e_I_mk, e_J_mk, e_R_mk, if_neg e, if_neg e, if_neg e]
theorem e_Rel.lt {D : e_D} {B : Heap} {h : e_H} {H : Heap} (hR : e_Rel D B h H) {a : Nat} {d : e_K} (hk : e_k h a = some d) : B.size ≤ a ∧ a < e_n h := hR.2.2.2.1 a (by rw [hk]; exact fun e => by cases e)
/-- entry idx of own's pool names field k of class c -/
def e_FL (own : String) (idx c k : Nat) : Prop := ∃ q : vw_C, e_cl[c]? = some q ∧ k < q.2.2 ∧
  (Cond.fieldLink own idx (q.2.1 k).1 (q.2.1 k).2.1 (q.2.1 k).2.2.1 ∈ lw_all ∨
   (∃ ref, Cond.fieldLink own idx ref (q.2.1 k).2.1 (q.2.1 k).2.2.1 ∈ lw_all ∧ Cond.sameField ref (q.2.1 k).1 (q.2.1 k).2.1 (q.2.1 k).2.2.1 ∈ lw_all) ∨
   (∃ host, Cond.fieldLinkNest own idx (q.2.1 k).1 (q.2.1 k).2.1 (q.2.1 k).2.2.1 host ∈ lw_tbl) ∨
   (∃ ref host, Cond.fieldLinkNest own idx ref (q.2.1 k).2.1 (q.2.1 k).2.2.1 host ∈ lw_tbl ∧ Cond.sameField ref (q.2.1 k).1 (q.2.1 k).2.1 (q.2.1 k).2.2.1 ∈ lw_all))
/-- .. and whether it is final, and whose -/
def e_fin (c k : Nat) : Bool := match e_cl[c]? with
  | some q => (q.2.1 k).2.2.2
  | none => false
def e_own (c k : Nat) : String := match e_cl[c]? with
  | some q => (q.2.1 k).1
  | none => ""
variable {K : e_C} {cc : ByteArray} {pc : Nat} {L : List (Option Value)} {st : List Value} {h : e_H} {α : Type} {Q : α → Prop}
section
variable {p : Program} {e : Env} {R : Room} {s : State} {m : MethodId} {args : Array Value} {below : List Frame} {meth : Method} {c : Code} {H : Heap} {locs : List Loc} {cells slots : Nat} {Q0 : State → Prop} {ls : Array Slot} {l : Launch}
theorem e_getW (E : e_Ent K cc p R s m args meth c) {idx ci k a : Nat} (hf : e_FL (k_M K).1.cls idx ci k) (hk : e_k h a = some (.inl ci)) (hR : e_Rel (k_D K) (k_B K) h H) (hd : decode cc pc = .ok (.getfield idx, 3))
    (kk : W p l e R s m args below meth c H locs cells slots Q0 (F0 m (pc + 3) ls (e_V h (e_ty ci k) a k :: st))) : W p l e R s m args below meth c H locs cells slots Q0 (F0 m pc ls (.ref a :: st)) := by
  obtain ⟨q, hq, hkN, hl⟩ := hf
  obtain ⟨hx, hb, -, -, hts, hown, -, -, -, hG, -⟩ := E
  obtain ⟨q', hq', cell, q1, q2, q3, q4⟩ := (hR.2.2.2.2 a).ob hk
  cases hq.symm.trans hq'
  obtain ⟨hin, hty, -⟩ := e_cl_ok ci q hq
  obtain ⟨hS, hfc, kC, hkC, hkind⟩ := hG.1 ci q hq
  obtain ⟨cf, kf, fi, f, hi, hsl⟩ := hS k hkN
  have hst := (u_facts hfc hkC (u_lays hts hin hkN) hi).1
  have hv : cell.slots[f.slot]? = some (e_V h (e_ty ci k) a k) := by rw [hsl]; exact q4 k hkN
  have hu : cell.vm ≠ .unknown := by rw [q3]; exact fun h => by cases h
  rcases hl with hl | ⟨ref, hl, hs⟩ | ⟨host, hl⟩ | ⟨ref, host, hl, hs⟩
  · exact W.getf hx hb hown (hts _ hl) hi hst q1 hu hv rfl rfl hd kk
  · exact W.getf hx hb hown (hts _ hl) (u_same (hts _ hs) _ hi) hst q1 hu hv rfl rfl hd kk
  · exact va_Wgetf hx hb hown (e_nw_use rfl (hG.2.2.1 _ hl rfl)) hi hst q1 hu hv rfl rfl hd kk
  · exact va_Wgetf hx hb hown (e_nw_use rfl (hG.2.2.1 _ hl rfl)) (u_same (hts _ hs) _ hi) hst q1 hu hv rfl rfl hd kk
/-- what a store to field k of object a does to the abstract heap -/
def e_stored (h h' : e_H) (ty : FieldType) (a k : Nat) (v : Value) : Prop := (∀ b, e_k h' b = e_k h b) ∧ e_n h' = e_n h ∧ e_u h' = e_u h ∧ (∀ (t : FieldType) (b j : Nat), ¬ (b = a ∧ j = k) → e_V h' t b j = e_V h t b j) ∧ e_V h' ty a k = v
theorem e_putW (E : e_Ent K cc p R s m args meth c) {h' : e_H} {idx ci k a : Nat} {v : Value} (hf : e_FL (k_M K).1.cls idx ci k) (hk : e_k h a = some (.inl ci)) (hR : e_Rel (k_D K) (k_B K) h H) (hd : decode cc pc = .ok (.putfield idx, 3))
    (hfin : e_fin ci k = false ∨ (e_fin ci k = true ∧ (k_M K).1.name = "<init>" ∧ e_own ci k = (k_M K).1.cls)) (hn : narrow (e_ty ci k) v = v) (hfit : fits (e_ty ci k) v = true) (hst : e_stored h h' (e_ty ci k) a k v)
    (kk : ∀ (H1 : Heap) (loc : Loc), (k_B K).size ≤ loc.base → e_Rel (k_D K) (k_B K) h' H1 → W p l e R s m args below meth c H1 (locs ++ [loc]) cells slots Q0 (F0 m (pc + 3) ls st)) : W p l e R s m args below meth c H locs cells slots Q0 (F0 m pc ls (v :: .ref a :: st)) := by
  obtain ⟨q, hq, hkN, hl⟩ := hf
  obtain ⟨hx, hb, -, -, hts, hown, -, hname, -, hG, -⟩ := E
  obtain ⟨q', hq', cell, q1, q2, q3, q4⟩ := (hR.2.2.2.2 a).ob hk
  cases hq.symm.trans hq'
  obtain ⟨hin, hty, -⟩ := e_cl_ok ci q hq
  have hap := e_apart (D := k_D K) hts hq (hG.1 ci q hq)
  obtain ⟨hS, hfc, kC, hkC, hkind⟩ := hG.1 ci q hq
  obtain ⟨cf, kf, fi, f, hi, hsl⟩ := hS k hkN
  have hst0 := (u_facts hfc hkC (u_lays hts hin hkN) hi).1
  have hlay := hts _ (hin _ (u_in_lay hkN))
  unfold u_lay at hlay
  have hlt : f.slot < cell.slots.size := by rw [hsl]; exact k2_hasslot (q4 k hkN)
  have hba := (hR.lt hk).1
  obtain ⟨z1, z2, z3, z4, z5⟩ := hst
  have fin : ∀ H' : Heap, H'[a]? = some (cell.setSlot f.slot v) → H'.size = H.size → (∀ q, q ≠ a → H'[q]? = H[q]?) → e_Rel (k_D K) (k_B K) h' H' := by
    intro H' e1 e2 e3
    rw [hsl] at e1
    refine hR.put e2 e3 z1 z2 (fun t b j hne => z4 t b j (fun x => hne x.1)) hba ?_
    unfold e_At
    rw [z1, hk]
    refine ⟨q, hq, t_OB.to (V := updV (fun k => e_V h (e_ty ci k) a k) k v) ⟨_, e1, q2, q3, t_set q4 hap hkN v⟩ (fun j _ => ?_)⟩
    unfold updV
    by_cases e : j = k
    · rw [if_pos e, e, z5]
    · rw [if_neg e, z4 _ _ _ (fun x => e x.2)]
  rcases hfin with hfin | ⟨hfin, hini, hdecl⟩
  · have hfin : (q.2.1 k).2.2.2 = false := by unfold e_fin at hfin; rw [hq] at hfin; exact hfin
    rw [if_neg (by rw [hfin]; decide)] at hlay
    have h6 := u_store hfc hkC hkind hlay hi (hty k hkN) hn hfit
    rcases hl with hl | ⟨ref, hl, hs⟩ | ⟨host, hl⟩ | ⟨ref, host, hl, hs⟩
    · exact W.putK hx hb (f := f) ⟨hown, hts _ hl, ⟨_, _, _, hi⟩, hst0⟩ (by rw [q2]; exact h6) q1 q3 hlt rfl rfl hd fun H' e1 e2 e3 => kk H' _ hba (fin H' e1 e2 e3)
    · exact W.putK hx hb (f := f) ⟨hown, hts _ hl, ⟨_, _, _, u_same (hts _ hs) _ hi⟩, hst0⟩ (by rw [q2]; exact h6) q1 q3 hlt rfl rfl hd fun H' e1 e2 e3 => kk H' _ hba (fin H' e1 e2 e3)
    · exact va_WputK hx hb (f := f) hown (e_nw_use rfl (hG.2.2.1 _ hl rfl)) hi hst0 (by rw [q2]; exact h6) q1 q3 hlt rfl rfl hd fun H' e1 e2 e3 => kk H' _ hba (fin H' e1 e2 e3)
    · exact va_WputK hx hb (f := f) hown (e_nw_use rfl (hG.2.2.1 _ hl rfl)) (u_same (hts _ hs) _ hi) hst0 (by rw [q2]; exact h6) q1 q3 hlt rfl rfl hd fun H' e1 e2 e3 => kk H' _ hba (fin H' e1 e2 e3)
  · have hfin : (q.2.1 k).2.2.2 = true := by unfold e_fin at hfin; rw [hq] at hfin; exact hfin
    have hdecl : (q.2.1 k).1 = (k_M K).1.cls := by unfold e_own at hdecl; rw [hq] at hdecl; exact hdecl
    rw [if_pos hfin] at hlay
    have hcf : m.cls = cf := by
      obtain ⟨_, _, c', _, _, _, -, -, hf', -, -, -, hown2, -⟩ := Cond.laysFinal_spec hlay
      have e1 : c' = cf := by have := hi.symm.trans hf'; simp at this; exact this.1.symm
      rw [hdecl] at hown2
      rw [← e1]; exact Option.some.inj (hown.symm.trans hown2)
    have h6 := u_fits hfc hkC hkind (Or.inr hlay) hi (hty k hkN) hn hfit
    have hin2 : meth.name = "<init>" := hname.trans hini
    rcases hl with hl | ⟨ref, hl, hs⟩ | ⟨host, hl⟩ | ⟨ref, host, hl, hs⟩
    · exact W.putFinK hx hb hown (hts _ hl) hi hst0 hcf hin2 (by rw [q2]; exact h6) q1 q3 hlt rfl rfl hd fun H' e1 e2 e3 => kk H' _ hba (fin H' e1 e2 e3)
    · exact W.putFinK hx hb hown (hts _ hl) (u_same (hts _ hs) _ hi) hst0 hcf hin2 (by rw [q2]; exact h6) q1 q3 hlt rfl rfl hd fun H' e1 e2 e3 => kk H' _ hba (fin H' e1 e2 e3)
    · have ha : a < H.size := (Array.getElem?_eq_some_iff.mp q1).1
      refine va_Wputf hx hb hown (e_nw_use rfl (hG.2.2.1 _ hl rfl)) hi hst0 (Or.inr ⟨hcf, hin2⟩) q1 (by rw [q3]; exact fun h => by cases h) hlt h6.1 (by rw [q3, q2]; exact h6.2) rfl rfl hd (kk _ _ hba (fin _ ?_ ?_ ?_))
      · simp [Array.getElem?_setIfInBounds, ha]
      · simp
      · intro q hq
        simp [Array.getElem?_setIfInBounds, Ne.symm hq]
    · have ha : a < H.size := (Array.getElem?_eq_some_iff.mp q1).1
      refine va_Wputf hx hb hown (e_nw_use rfl (hG.2.2.1 _ hl rfl)) (u_same (hts _ hs) _ hi) hst0 (Or.inr ⟨hcf, hin2⟩) q1 (by rw [q3]; exact fun h => by cases h) hlt h6.1 (by rw [q3, q2]; exact h6.2) rfl rfl hd (kk _ _ hba (fin _ ?_ ?_ ?_))
      · simp [Array.getElem?_setIfInBounds, ha]
      · simp
      · intro q hq
        simp [Array.getElem?_setIfInBounds, Ne.symm hq]
end
theorem e_st_I {h : e_H} {ty : FieldType} {a k : Nat} {v : Int32} (ht : ∀ g : e_H, e_V g ty a k = .int (e_I g a k)) : e_stored h (e_sI h a k v) ty a k (.int v) := by
  refine ⟨fun _ => rfl, rfl, rfl, fun t b j hne => ?_, ?_⟩
  · unfold e_V
    rw [e_I_sI, if_neg hne, e_J_sI, e_R_sI]
  · rw [ht, e_I_sI, if_pos ⟨rfl, rfl⟩]
theorem e_st_J {h : e_H} {ty : FieldType} {a k : Nat} {v : Int64} (ht : ∀ g : e_H, e_V g ty a k = .long (e_J g a k)) : e_stored h (e_sJ h a k v) ty a k (.long v) := by
  refine ⟨fun _ => rfl, rfl, rfl, fun t b j hne => ?_, ?_⟩
  · unfold e_V
    rw [e_J_sJ, if_neg hne, e_I_sJ, e_R_sJ]
  · rw [ht, e_J_sJ, if_pos ⟨rfl, rfl⟩]
theorem e_st_R {h : e_H} {ty : FieldType} {a k : Nat} {v : Option Nat} (ht : ∀ g : e_H, e_V g ty a k = va_rf (e_R g a k)) : e_stored h (e_sR h a k v) ty a k (va_rf v) := by
  refine ⟨fun _ => rfl, rfl, rfl, fun t b j hne => ?_, ?_⟩
  · unfold e_V
    rw [e_R_sR, if_neg hne, e_I_sR, e_J_sR]
  · rw [ht, e_R_sR, if_pos ⟨rfl, rfl⟩]
theorem S_getI {own : String} {idx c k a : Nat} {Y : Int32 → Option α} (hd : decode cc pc = .ok (.getfield idx, 3)) (ho : (k_M K).1.cls = own) (hf : e_FL own idx c k) (ht : ∀ (g : e_H) (b : Nat), e_V g (e_ty c k) b k = .int (e_I g b k)) (kk : ∀ v, e_fI h a c k = some v → Sx K cc (pc + 3) L (.int v :: st) h (Y v) Q) : Sx K cc pc L (.ref a :: st) h ((e_fI h a c k).bind Y) Q := by
  subst ho
  refine Sx.ask fun v e => ?_
  intro v9 e9 q9
  refine e_lift (kk v e v9 e9 q9) ?_
  intro W9 p e R s m args below meth c E l ls H locs a1 a2 a3 a4
  obtain ⟨hk, hv⟩ := e_fI_of (by assumption)
  exact e_getW E hf hk a3 hd (by rw [ht, ← hv]; exact W9 E l ls H locs a1 a2 a3 a4)
theorem S_getJ {own : String} {idx c k a : Nat} {Y : Int64 → Option α} (hd : decode cc pc = .ok (.getfield idx, 3)) (ho : (k_M K).1.cls = own) (hf : e_FL own idx c k) (ht : ∀ (g : e_H) (b : Nat), e_V g (e_ty c k) b k = .long (e_J g b k)) (kk : ∀ v, e_fJ h a c k = some v → Sx K cc (pc + 3) L (.long v :: st) h (Y v) Q) : Sx K cc pc L (.ref a :: st) h ((e_fJ h a c k).bind Y) Q := by
  subst ho
  refine Sx.ask fun v e => ?_
  intro v9 e9 q9
  refine e_lift (kk v e v9 e9 q9) ?_
  intro W9 p e R s m args below meth c E l ls H locs a1 a2 a3 a4
  obtain ⟨hk, hv⟩ := e_fJ_of (by assumption)
  exact e_getW E hf hk a3 hd (by rw [ht, ← hv]; exact W9 E l ls H locs a1 a2 a3 a4)
theorem S_getR {own : String} {idx c k a : Nat} {Y : Option Nat → Option α} (hd : decode cc pc = .ok (.getfield idx, 3)) (ho : (k_M K).1.cls = own) (hf : e_FL own idx c k) (ht : ∀ (g : e_H) (b : Nat), e_V g (e_ty c k) b k = va_rf (e_R g b k)) (kk : ∀ v, e_fR h a c k = some v → Sx K cc (pc + 3) L (va_rf v :: st) h (Y v) Q) : Sx K cc pc L (.ref a :: st) h ((e_fR h a c k).bind Y) Q := by
  subst ho
  refine Sx.ask fun v e => ?_
  intro v9 e9 q9
  refine e_lift (kk v e v9 e9 q9) ?_
  intro W9 p e R s m args below meth c E l ls H locs a1 a2 a3 a4
  obtain ⟨hk, hv⟩ := e_fR_of (by assumption)
  exact e_getW E hf hk a3 hd (by rw [ht, ← hv]; exact W9 E l ls H locs a1 a2 a3 a4)
/-- a field that holds no null -/
def e_fA (h : e_H) (a c k : Nat) : Option Nat := (e_fR h a c k).bind fun r => r
theorem e_fA_of {h : e_H} {a c k v : Nat} (e : e_fA h a c k = some v) : e_k h a = some (.inl c) ∧ e_R h a k = some v := by
  unfold e_fA at e
  rw [Option.bind_eq_some_iff] at e
  obtain ⟨r, e1, e2⟩ := e
  obtain ⟨h1, h2⟩ := e_fR_of e1
  exact ⟨h1, by rw [← h2, e2]⟩
theorem S_getA {own : String} {idx c k a : Nat} {Y : Nat → Option α} (hd : decode cc pc = .ok (.getfield idx, 3)) (ho : (k_M K).1.cls = own) (hf : e_FL own idx c k) (ht : ∀ (g : e_H) (b : Nat), e_V g (e_ty c k) b k = va_rf (e_R g b k)) (kk : ∀ v, e_fA h a c k = some v → Sx K cc (pc + 3) L (.ref v :: st) h (Y v) Q) : Sx K cc pc L (.ref a :: st) h ((e_fA h a c k).bind Y) Q := by
  subst ho
  refine Sx.ask fun v e => ?_
  intro v9 e9 q9
  refine e_lift (kk v e v9 e9 q9) ?_
  obtain ⟨hk, hv⟩ := e_fA_of e
  intro W9 p e R s m args below meth c E l ls H locs a1 a2 a3 a4
  exact e_getW E hf hk a3 hd (by rw [ht, hv]; exact W9 E l ls H locs a1 a2 a3 a4)
/-- a store's row, for any kind of value -/
theorem e_putS {h' : e_H} {idx c k a : Nat} {v : Value} {v9 : α} {Y : Option α} (hd : decode cc pc = .ok (.putfield idx, 3)) (hf : e_FL (k_M K).1.cls idx c k) (hk : e_k h a = some (.inl c)) (hfin : e_fin c k = false ∨ (e_fin c k = true ∧ (k_M K).1.name = "<init>" ∧ e_own c k = (k_M K).1.cls))
    (hn : narrow (e_ty c k) v = v) (hfit : fits (e_ty c k) v = true) (hst : e_stored h h' (e_ty c k) a k v) (kk : Sx K cc (pc + 3) L st h' Y Q) (e9 : Y = some v9) (q9 : Q v9) : e_g K cc pc L (v :: .ref a :: st) h := by
  obtain ⟨k1, k2⟩ := kk v9 e9 q9
  have hn2 := hst.2.1
  have hu2 := hst.2.2.1
  refine ⟨⟨by rw [← hn2]; exact k1.1, by rw [← hu2]; exact k1.2⟩, ?_⟩
  intro p e R s m args below meth c E l ls H locs a1 a2 a3 a4
  refine e_putW E hf hk a3 hd hfin hn hfit hst (fun H1 loc hb hR => ?_)
  have := k2 (p := p) (e := e) (R := R) (s := s) (m := m) (args := args) (below := below) (meth := meth) (c := c) E ⟨by rw [hn2]; exact l.1, by rw [hu2]; exact l.2⟩ ls H1 (locs ++ [loc]) a1 a2 hR (fun z hz => by
    rcases List.mem_append.mp hz with hz | hz
    · exact a4 z hz
    · rw [List.mem_singleton.mp hz]; exact hb)
  rw [hn2, hu2] at this
  exact this
theorem S_putI {own : String} {idx c k a : Nat} {v : Int32} {Y : e_H → Option α} (hd : decode cc pc = .ok (.putfield idx, 3)) (ho : (k_M K).1.cls = own) (hf : e_FL own idx c k) (ht : ∀ (g : e_H) (b : Nat), e_V g (e_ty c k) b k = .int (e_I g b k)) (hfin : e_fin c k = false ∨ (e_fin c k = true ∧ (k_M K).1.name = "<init>" ∧ e_own c k = own)) (hn : narrow (e_ty c k) (.int v) = .int v) (hfit : fits (e_ty c k) (.int v) = true)
    (kk : ∀ h', e_gI h a c k v = some h' → Sx K cc (pc + 3) L st h' (Y h') Q) : Sx K cc pc L (.int v :: .ref a :: st) h ((e_gI h a c k v).bind Y) Q := by
  subst ho
  refine Sx.ask fun h' e => ?_
  intro v9 e9 q9
  obtain ⟨hk, hh⟩ := e_gI_of e
  exact e_putS hd hf hk hfin hn hfit (hh ▸ e_st_I (fun g => ht g a)) (kk h' e) e9 q9
theorem S_putJ {own : String} {idx c k a : Nat} {v : Int64} {Y : e_H → Option α} (hd : decode cc pc = .ok (.putfield idx, 3)) (ho : (k_M K).1.cls = own) (hf : e_FL own idx c k) (ht : ∀ (g : e_H) (b : Nat), e_V g (e_ty c k) b k = .long (e_J g b k)) (hfin : e_fin c k = false ∨ (e_fin c k = true ∧ (k_M K).1.name = "<init>" ∧ e_own c k = own)) (hn : narrow (e_ty c k) (.long v) = .long v) (hfit : fits (e_ty c k) (.long v) = true)
    (kk : ∀ h', e_gJ h a c k v = some h' → Sx K cc (pc + 3) L st h' (Y h') Q) : Sx K cc pc L (.long v :: .ref a :: st) h ((e_gJ h a c k v).bind Y) Q := by
  subst ho
  refine Sx.ask fun h' e => ?_
  intro v9 e9 q9
  obtain ⟨hk, hh⟩ := e_gJ_of e
  exact e_putS hd hf hk hfin hn hfit (hh ▸ e_st_J (fun g => ht g a)) (kk h' e) e9 q9
theorem e_narR {ty : FieldType} (hr : ty.isReference = true) (r : Option Nat) : narrow ty (va_rf r) = va_rf r ∧ fits ty (va_rf r) = true := by
  cases ty <;> simp [FieldType.isReference] at hr <;> cases r <;> exact ⟨rfl, rfl⟩
theorem S_putR {own : String} {idx c k a : Nat} {v : Option Nat} {Y : e_H → Option α} (hd : decode cc pc = .ok (.putfield idx, 3)) (ho : (k_M K).1.cls = own) (hf : e_FL own idx c k) (ht : ∀ (g : e_H) (b : Nat), e_V g (e_ty c k) b k = va_rf (e_R g b k)) (hfin : e_fin c k = false ∨ (e_fin c k = true ∧ (k_M K).1.name = "<init>" ∧ e_own c k = own)) (hr : (e_ty c k).isReference = true)
    (kk : ∀ h', e_gR h a c k v = some h' → Sx K cc (pc + 3) L st h' (Y h') Q) : Sx K cc pc L (va_rf v :: .ref a :: st) h ((e_gR h a c k v).bind Y) Q := by
  subst ho
  refine Sx.ask fun h' e => ?_
  intro v9 e9 q9
  obtain ⟨hk, hh⟩ := e_gR_of e
  exact e_putS hd hf hk hfin (e_narR hr v).1 (e_narR hr v).2 (hh ▸ e_st_R (fun g => ht g a)) (kk h' e) e9 q9
end MEM
