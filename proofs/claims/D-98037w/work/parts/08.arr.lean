/-! ENGINE 5: arrays, new objects -/
section ARR
variable {K : e_C} {cc : ByteArray} {pc : Nat} {L : List (Option Value)} {st : List Value} {h : e_H} {α : Type} {Q : α → Prop}
theorem e_arR {D : e_D} {B : Heap} {H : Heap} (hR : e_Rel D B h H) {a t n : Nat} (hk : e_k h a = some (.inr (t, n))) : t < 8 ∧ H[a]? = some (arrV (D.2.1 t) n (fun j => e_V h (e_T t) a j)) := (hR.2.2.2.2 a).ar hk
theorem e_arH {D : e_D} {B : Heap} {s : State} (hG : e_G D B s) {t : Nat} (ht : t < 8) (n : Nat) (f : Nat → Value) : s.isArrayOf (arrV (D.2.1 t) n f) (e_T t) := (hG.2.1 t ht).1 n f
/-- an element that is no null -/
def e_aA (h : e_H) (a t : Nat) (i : Int32) : Option Nat := (e_aR h a t i).bind fun r => r
theorem e_aA_of {h : e_H} {a t v : Nat} {i : Int32} (e : e_aA h a t i = some v) : ∃ n j, e_k h a = some (.inr (t, n)) ∧ ¬ (i < 0 ∨ n ≤ i.toNatClampNeg) ∧ j = i.toNatClampNeg ∧ j < n ∧ e_R h a j = some v := by
  unfold e_aA at e
  rw [Option.bind_eq_some_iff] at e
  obtain ⟨r, e1, e2⟩ := e
  obtain ⟨n, j, h1, h2, h3, h4, h5⟩ := e_aR_of e1
  exact ⟨n, j, h1, h2, h3, h4, by rw [← h5, e2]⟩
/-- a place of an array has been written -/
theorem e_Rel.putA {D : e_D} {B : Heap} {h' : e_H} {H H' : Heap} (hR : e_Rel D B h H) {a t n j : Nat} {v : Value} (hk : e_k h a = some (.inr (t, n))) (hst : e_stored h h' (e_T t) a j v)
    (e1 : H'[a]? = some ((arrV (D.2.1 t) n (fun j => e_V h (e_T t) a j)).setSlot j v)) (e2 : H'.size = H.size) (e3 : ∀ q, q ≠ a → H'[q]? = H[q]?) : e_Rel D B h' H' := by
  obtain ⟨z1, z2, z3, z4, z5⟩ := hst
  refine hR.put e2 e3 z1 z2 (fun t b j hne => z4 t b j (fun x => hne x.1)) (hR.lt hk).1 ?_
  unfold e_At
  rw [z1, hk]
  refine ⟨(e_arR hR hk).1, ?_⟩
  rw [e1, arrV_store]
  congr 1
  congr 1
  funext i
  unfold updV
  by_cases e : i = j
  · rw [if_pos e, e, z5]
  · rw [if_neg e, z4 _ _ _ (fun x => e x.2)]
/-- the end of a store's row -/
theorem e_stEnd {h' : e_H} {pc2 : Nat} {st2 stk : List Value} {v9 : α} {Y : Option α} (hn : e_n h' = e_n h) (hu : e_u h' = e_u h) (kk : Sx K cc pc2 L st2 h' Y Q) (e9 : Y = some v9) (q9 : Q v9)
    (row : ∀ {p : Program} {e : Env} {R : Room} {s : State} {m : MethodId} {args : Array Value} {below : List Frame} {meth : Method} {c : Code} (_ : e_Ent K cc p R s m args meth c) (ls : Array Slot) (H : Heap) (locs : List Loc), e_Rel (k_D K) (k_B K) h H →
      (∀ (H1 : Heap) (loc : List Loc), (∀ z ∈ loc, (k_B K).size ≤ z.base) → e_Rel (k_D K) (k_B K) h' H1 → W p (k_l K) e R s m args below meth c H1 (locs ++ loc) (e_n h - e_n (k_h K)) (e_u h - e_u (k_h K)) (e_Z K below s) (F0 m pc2 ls st2)) →
      e_Loc ls L → L.length = (k_M K).2.2.1 →
      W p (k_l K) e R s m args below meth c H locs (e_n h - e_n (k_h K)) (e_u h - e_u (k_h K)) (e_Z K below s) (F0 m pc ls stk)) : e_g K cc pc L stk h := by
  obtain ⟨k1, k2⟩ := kk v9 e9 q9
  refine ⟨⟨by rw [← hn]; exact k1.1, by rw [← hu]; exact k1.2⟩, ?_⟩
  intro p e R s m args below meth c E l ls H locs a1 a2 a3 a4
  refine row E ls H locs a3 (fun H1 loc hb hR => ?_) a1 a2
  have := k2 (p := p) (e := e) (R := R) (s := s) (m := m) (args := args) (below := below) (meth := meth) (c := c) E ⟨by rw [hn]; exact l.1, by rw [hu]; exact l.2⟩ ls H1 (locs ++ loc) a1 a2 hR (fun z hz => by
    rcases List.mem_append.mp hz with hz | hz
    · exact a4 z hz
    · exact hb z hz)
  rw [hn, hu] at this
  exact this
theorem S_iald {a : Nat} {i : Int32} {Y : Int32 → Option α} (hd : decode cc pc = .ok (.iaload, 1)) (kk : ∀ v, e_aI h a 0 i = some v → Sx K cc (pc + 1) L (.int v :: st) h (Y v) Q) : Sx K cc pc L (.int i :: .ref a :: st) h ((e_aI h a 0 i).bind Y) Q := by
  refine Sx.ask fun v e => ?_
  intro v9 e9 q9
  refine e_lift (kk v e v9 e9 q9) ?_
  obtain ⟨n, j, hk, hin, hj, hjn, hv⟩ := e_aI_of e
  subst hj
  intro W9 p e R s m args below meth c E l ls H locs a1 a2 a3 a4
  obtain ⟨-, hc⟩ := e_arR a3 hk
  refine W.iald (v := .int v) E.1 E.2.1 hc (e_arH E.2.2.2.2.2.2.2.2.2.1 (by decide) n _) (fun q => by cases q) (by rw [arrV_size]; exact hin) ?_ rfl rfl hd (W9 E l ls H locs a1 a2 a3 a4)
  rw [arrV_read _ _ hjn, hv]
  rfl
theorem S_bald {a : Nat} {i : Int32} {Y : Int32 → Option α} (hd : decode cc pc = .ok (.baload, 1)) (kk : ∀ v, e_aI h a 1 i = some v → Sx K cc (pc + 1) L (.int v :: st) h (Y v) Q) : Sx K cc pc L (.int i :: .ref a :: st) h ((e_aI h a 1 i).bind Y) Q := by
  refine Sx.ask fun v e => ?_
  intro v9 e9 q9
  refine e_lift (kk v e v9 e9 q9) ?_
  obtain ⟨n, j, hk, hin, hj, hjn, hv⟩ := e_aI_of e
  subst hj
  intro W9 p e R s m args below meth c E l ls H locs a1 a2 a3 a4
  obtain ⟨-, hc⟩ := e_arR a3 hk
  refine W.bald (v := .int v) E.1 E.2.1 hc (e_arH E.2.2.2.2.2.2.2.2.2.1 (by decide) n _) (fun q => by cases q) (by rw [arrV_size]; exact hin) ?_ rfl rfl hd (W9 E l ls H locs a1 a2 a3 a4)
  rw [arrV_read _ _ hjn, hv]
  rfl
theorem S_zald {a : Nat} {i : Int32} {Y : Int32 → Option α} (hd : decode cc pc = .ok (.baload, 1)) (kk : ∀ v, e_aI h a 2 i = some v → Sx K cc (pc + 1) L (.int v :: st) h (Y v) Q) : Sx K cc pc L (.int i :: .ref a :: st) h ((e_aI h a 2 i).bind Y) Q := by
  refine Sx.ask fun v e => ?_
  intro v9 e9 q9
  refine e_lift (kk v e v9 e9 q9) ?_
  obtain ⟨n, j, hk, hin, hj, hjn, hv⟩ := e_aI_of e
  subst hj
  intro W9 p e R s m args below meth c E l ls H locs a1 a2 a3 a4
  obtain ⟨-, hc⟩ := e_arR a3 hk
  refine W.zald (v := .int v) E.1 E.2.1 hc (e_arH E.2.2.2.2.2.2.2.2.2.1 (by decide) n _) (fun q => by cases q) (by rw [arrV_size]; exact hin) ?_ rfl rfl hd (W9 E l ls H locs a1 a2 a3 a4)
  rw [arrV_read _ _ hjn, hv]
  rfl
theorem S_lald {a : Nat} {i : Int32} {Y : Int64 → Option α} (hd : decode cc pc = .ok (.laload, 1)) (kk : ∀ v, e_aJ h a 3 i = some v → Sx K cc (pc + 1) L (.long v :: st) h (Y v) Q) : Sx K cc pc L (.int i :: .ref a :: st) h ((e_aJ h a 3 i).bind Y) Q := by
  refine Sx.ask fun v e => ?_
  intro v9 e9 q9
  refine e_lift (kk v e v9 e9 q9) ?_
  obtain ⟨n, j, hk, hin, hj, hjn, hv⟩ := e_aJ_of e
  subst hj
  intro W9 p e R s m args below meth c E l ls H locs a1 a2 a3 a4
  obtain ⟨-, hc⟩ := e_arR a3 hk
  refine W.lald (v := .long v) E.1 E.2.1 hc (e_arH E.2.2.2.2.2.2.2.2.2.1 (by decide) n _) (fun q => by cases q) (by rw [arrV_size]; exact hin) ?_ rfl rfl hd (W9 E l ls H locs a1 a2 a3 a4)
  rw [arrV_read _ _ hjn, hv]
  rfl
theorem S_aald4 {a : Nat} {i : Int32} {Y : Option Nat → Option α} (hd : decode cc pc = .ok (.aaload, 1)) (kk : ∀ v, e_aR h a 4 i = some v → Sx K cc (pc + 1) L (va_rf v :: st) h (Y v) Q) : Sx K cc pc L (.int i :: .ref a :: st) h ((e_aR h a 4 i).bind Y) Q := by
  refine Sx.ask fun v e => ?_
  intro v9 e9 q9
  refine e_lift (kk v e v9 e9 q9) ?_
  obtain ⟨n, j, hk, hin, hj, hjn, hv⟩ := e_aR_of e
  subst hj
  intro W9 p e R s m args below meth c E l ls H locs a1 a2 a3 a4
  obtain ⟨-, hc⟩ := e_arR a3 hk
  refine W.aald (v := va_rf v) E.1 E.2.1 hc (e_arH E.2.2.2.2.2.2.2.2.2.1 (by decide) n _) rfl (fun q => by cases q) (by rw [arrV_size]; exact hin) ?_ rfl rfl hd (W9 E l ls H locs a1 a2 a3 a4)
  rw [arrV_read _ _ hjn, hv]
  rfl
theorem S_aald5 {a : Nat} {i : Int32} {Y : Option Nat → Option α} (hd : decode cc pc = .ok (.aaload, 1)) (kk : ∀ v, e_aR h a 5 i = some v → Sx K cc (pc + 1) L (va_rf v :: st) h (Y v) Q) : Sx K cc pc L (.int i :: .ref a :: st) h ((e_aR h a 5 i).bind Y) Q := by
  refine Sx.ask fun v e => ?_
  intro v9 e9 q9
  refine e_lift (kk v e v9 e9 q9) ?_
  obtain ⟨n, j, hk, hin, hj, hjn, hv⟩ := e_aR_of e
  subst hj
  intro W9 p e R s m args below meth c E l ls H locs a1 a2 a3 a4
  obtain ⟨-, hc⟩ := e_arR a3 hk
  refine W.aald (v := va_rf v) E.1 E.2.1 hc (e_arH E.2.2.2.2.2.2.2.2.2.1 (by decide) n _) rfl (fun q => by cases q) (by rw [arrV_size]; exact hin) ?_ rfl rfl hd (W9 E l ls H locs a1 a2 a3 a4)
  rw [arrV_read _ _ hjn, hv]
  rfl
theorem S_aald6 {a : Nat} {i : Int32} {Y : Option Nat → Option α} (hd : decode cc pc = .ok (.aaload, 1)) (kk : ∀ v, e_aR h a 6 i = some v → Sx K cc (pc + 1) L (va_rf v :: st) h (Y v) Q) : Sx K cc pc L (.int i :: .ref a :: st) h ((e_aR h a 6 i).bind Y) Q := by
  refine Sx.ask fun v e => ?_
  intro v9 e9 q9
  refine e_lift (kk v e v9 e9 q9) ?_
  obtain ⟨n, j, hk, hin, hj, hjn, hv⟩ := e_aR_of e
  subst hj
  intro W9 p e R s m args below meth c E l ls H locs a1 a2 a3 a4
  obtain ⟨-, hc⟩ := e_arR a3 hk
  refine W.aald (v := va_rf v) E.1 E.2.1 hc (e_arH E.2.2.2.2.2.2.2.2.2.1 (by decide) n _) rfl (fun q => by cases q) (by rw [arrV_size]; exact hin) ?_ rfl rfl hd (W9 E l ls H locs a1 a2 a3 a4)
  rw [arrV_read _ _ hjn, hv]
  rfl
theorem S_aald7 {a : Nat} {i : Int32} {Y : Option Nat → Option α} (hd : decode cc pc = .ok (.aaload, 1)) (kk : ∀ v, e_aR h a 7 i = some v → Sx K cc (pc + 1) L (va_rf v :: st) h (Y v) Q) : Sx K cc pc L (.int i :: .ref a :: st) h ((e_aR h a 7 i).bind Y) Q := by
  refine Sx.ask fun v e => ?_
  intro v9 e9 q9
  refine e_lift (kk v e v9 e9 q9) ?_
  obtain ⟨n, j, hk, hin, hj, hjn, hv⟩ := e_aR_of e
  subst hj
  intro W9 p e R s m args below meth c E l ls H locs a1 a2 a3 a4
  obtain ⟨-, hc⟩ := e_arR a3 hk
  refine W.aald (v := va_rf v) E.1 E.2.1 hc (e_arH E.2.2.2.2.2.2.2.2.2.1 (by decide) n _) rfl (fun q => by cases q) (by rw [arrV_size]; exact hin) ?_ rfl rfl hd (W9 E l ls H locs a1 a2 a3 a4)
  rw [arrV_read _ _ hjn, hv]
  rfl
theorem S_aaldA4 {a : Nat} {i : Int32} {Y : Nat → Option α} (hd : decode cc pc = .ok (.aaload, 1)) (kk : ∀ v, e_aA h a 4 i = some v → Sx K cc (pc + 1) L (.ref v :: st) h (Y v) Q) : Sx K cc pc L (.int i :: .ref a :: st) h ((e_aA h a 4 i).bind Y) Q := by
  refine Sx.ask fun v e => ?_
  intro v9 e9 q9
  refine e_lift (kk v e v9 e9 q9) ?_
  obtain ⟨n, j, hk, hin, hj, hjn, hv⟩ := e_aA_of e
  subst hj
  intro W9 p e R s m args below meth c E l ls H locs a1 a2 a3 a4
  obtain ⟨-, hc⟩ := e_arR a3 hk
  refine W.aald (v := .ref v) E.1 E.2.1 hc (e_arH E.2.2.2.2.2.2.2.2.2.1 (by decide) n _) rfl (fun q => by cases q) (by rw [arrV_size]; exact hin) ?_ rfl rfl hd (W9 E l ls H locs a1 a2 a3 a4)
  rw [arrV_read _ _ hjn]
  show some (va_rf (e_R h a _)) = _
  rw [hv]
  rfl
theorem S_aaldA5 {a : Nat} {i : Int32} {Y : Nat → Option α} (hd : decode cc pc = .ok (.aaload, 1)) (kk : ∀ v, e_aA h a 5 i = some v → Sx K cc (pc + 1) L (.ref v :: st) h (Y v) Q) : Sx K cc pc L (.int i :: .ref a :: st) h ((e_aA h a 5 i).bind Y) Q := by
  refine Sx.ask fun v e => ?_
  intro v9 e9 q9
  refine e_lift (kk v e v9 e9 q9) ?_
  obtain ⟨n, j, hk, hin, hj, hjn, hv⟩ := e_aA_of e
  subst hj
  intro W9 p e R s m args below meth c E l ls H locs a1 a2 a3 a4
  obtain ⟨-, hc⟩ := e_arR a3 hk
  refine W.aald (v := .ref v) E.1 E.2.1 hc (e_arH E.2.2.2.2.2.2.2.2.2.1 (by decide) n _) rfl (fun q => by cases q) (by rw [arrV_size]; exact hin) ?_ rfl rfl hd (W9 E l ls H locs a1 a2 a3 a4)
  rw [arrV_read _ _ hjn]
  show some (va_rf (e_R h a _)) = _
  rw [hv]
  rfl
theorem S_aaldA6 {a : Nat} {i : Int32} {Y : Nat → Option α} (hd : decode cc pc = .ok (.aaload, 1)) (kk : ∀ v, e_aA h a 6 i = some v → Sx K cc (pc + 1) L (.ref v :: st) h (Y v) Q) : Sx K cc pc L (.int i :: .ref a :: st) h ((e_aA h a 6 i).bind Y) Q := by
  refine Sx.ask fun v e => ?_
  intro v9 e9 q9
  refine e_lift (kk v e v9 e9 q9) ?_
  obtain ⟨n, j, hk, hin, hj, hjn, hv⟩ := e_aA_of e
  subst hj
  intro W9 p e R s m args below meth c E l ls H locs a1 a2 a3 a4
  obtain ⟨-, hc⟩ := e_arR a3 hk
  refine W.aald (v := .ref v) E.1 E.2.1 hc (e_arH E.2.2.2.2.2.2.2.2.2.1 (by decide) n _) rfl (fun q => by cases q) (by rw [arrV_size]; exact hin) ?_ rfl rfl hd (W9 E l ls H locs a1 a2 a3 a4)
  rw [arrV_read _ _ hjn]
  show some (va_rf (e_R h a _)) = _
  rw [hv]
  rfl
theorem S_aaldA7 {a : Nat} {i : Int32} {Y : Nat → Option α} (hd : decode cc pc = .ok (.aaload, 1)) (kk : ∀ v, e_aA h a 7 i = some v → Sx K cc (pc + 1) L (.ref v :: st) h (Y v) Q) : Sx K cc pc L (.int i :: .ref a :: st) h ((e_aA h a 7 i).bind Y) Q := by
  refine Sx.ask fun v e => ?_
  intro v9 e9 q9
  refine e_lift (kk v e v9 e9 q9) ?_
  obtain ⟨n, j, hk, hin, hj, hjn, hv⟩ := e_aA_of e
  subst hj
  intro W9 p e R s m args below meth c E l ls H locs a1 a2 a3 a4
  obtain ⟨-, hc⟩ := e_arR a3 hk
  refine W.aald (v := .ref v) E.1 E.2.1 hc (e_arH E.2.2.2.2.2.2.2.2.2.1 (by decide) n _) rfl (fun q => by cases q) (by rw [arrV_size]; exact hin) ?_ rfl rfl hd (W9 E l ls H locs a1 a2 a3 a4)
  rw [arrV_read _ _ hjn]
  show some (va_rf (e_R h a _)) = _
  rw [hv]
  rfl
theorem S_iast {a : Nat} {i : Int32} {v : Int32} {Y : e_H → Option α} (hd : decode cc pc = .ok (.iastore, 1)) (kk : ∀ h', e_wI h a 0 i v = some h' → Sx K cc (pc + 1) L st h' (Y h') Q) : Sx K cc pc L (.int v :: .int i :: .ref a :: st) h ((e_wI h a 0 i v).bind Y) Q := by
  refine Sx.ask fun h' e => ?_
  intro v9 e9 q9
  obtain ⟨n, j, hk, hin, hj, hjn, hh⟩ := e_wI_of e
  subst hj
  refine e_stEnd (by rw [hh]; rfl) (by rw [hh]; rfl) (kk h' e) e9 q9 ?_
  intro p e R s m args below meth c E ls H locs a3 k9 _ _
  obtain ⟨-, hc⟩ := e_arR a3 hk
  refine W.iast E.1 E.2.1 hc (e_arH E.2.2.2.2.2.2.2.2.2.1 (by decide) n _) (fun q => by cases q) (by rw [arrV_size]; exact hin) rfl rfl hd (fun H1 e1 e2 e3 => k9 H1 _ ?_ ?_)
  · intro z hz
    rw [List.mem_singleton.mp hz]
    exact (a3.lt hk).1
  · exact a3.putA hk (hh ▸ e_st_I (fun g => rfl)) e1 e2 e3
theorem S_bast {a : Nat} {i : Int32} {v : Int32} {Y : e_H → Option α} (hd : decode cc pc = .ok (.bastore, 1)) (kk : ∀ h', e_wI h a 1 i v.toInt8.toInt32 = some h' → Sx K cc (pc + 1) L st h' (Y h') Q) : Sx K cc pc L (.int v :: .int i :: .ref a :: st) h ((e_wI h a 1 i v.toInt8.toInt32).bind Y) Q := by
  refine Sx.ask fun h' e => ?_
  intro v9 e9 q9
  obtain ⟨n, j, hk, hin, hj, hjn, hh⟩ := e_wI_of e
  subst hj
  refine e_stEnd (by rw [hh]; rfl) (by rw [hh]; rfl) (kk h' e) e9 q9 ?_
  intro p e R s m args below meth c E ls H locs a3 k9 _ _
  obtain ⟨-, hc⟩ := e_arR a3 hk
  refine W.bast E.1 E.2.1 hc (e_arH E.2.2.2.2.2.2.2.2.2.1 (by decide) n _) (fun q => by cases q) (by rw [arrV_size]; exact hin) rfl rfl hd (fun H1 e1 e2 e3 => k9 H1 _ ?_ ?_)
  · intro z hz
    rw [List.mem_singleton.mp hz]
    exact (a3.lt hk).1
  · exact a3.putA hk (hh ▸ e_st_I (fun g => rfl)) e1 e2 e3
theorem S_zast {a : Nat} {i : Int32} {v : Int32} {Y : e_H → Option α} (hd : decode cc pc = .ok (.bastore, 1)) (hn : narrow .boolean (.int v) = .int v) (kk : ∀ h', e_wI h a 2 i v = some h' → Sx K cc (pc + 1) L st h' (Y h') Q) : Sx K cc pc L (.int v :: .int i :: .ref a :: st) h ((e_wI h a 2 i v).bind Y) Q := by
  refine Sx.ask fun h' e => ?_
  intro v9 e9 q9
  obtain ⟨n, j, hk, hin, hj, hjn, hh⟩ := e_wI_of e
  subst hj
  refine e_stEnd (by rw [hh]; rfl) (by rw [hh]; rfl) (kk h' e) e9 q9 ?_
  intro p e R s m args below meth c E ls H locs a3 k9 _ _
  obtain ⟨-, hc⟩ := e_arR a3 hk
  refine W.zast E.1 E.2.1 hc (e_arH E.2.2.2.2.2.2.2.2.2.1 (by decide) n _) (fun q => by cases q) (by rw [arrV_size]; exact hin) rfl rfl hd (fun H1 e1 e2 e3 => k9 H1 _ ?_ ?_)
  · intro z hz
    rw [List.mem_singleton.mp hz]
    exact (a3.lt hk).1
  · rw [hn] at e1; exact a3.putA hk (hh ▸ e_st_I (fun g => rfl)) e1 e2 e3
theorem S_last {a : Nat} {i : Int32} {v : Int64} {Y : e_H → Option α} (hd : decode cc pc = .ok (.lastore, 1)) (kk : ∀ h', e_wJ h a 3 i v = some h' → Sx K cc (pc + 1) L st h' (Y h') Q) : Sx K cc pc L (.long v :: .int i :: .ref a :: st) h ((e_wJ h a 3 i v).bind Y) Q := by
  refine Sx.ask fun h' e => ?_
  intro v9 e9 q9
  obtain ⟨n, j, hk, hin, hj, hjn, hh⟩ := e_wJ_of e
  subst hj
  refine e_stEnd (by rw [hh]; rfl) (by rw [hh]; rfl) (kk h' e) e9 q9 ?_
  intro p e R s m args below meth c E ls H locs a3 k9 _ _
  obtain ⟨-, hc⟩ := e_arR a3 hk
  refine W.last E.1 E.2.1 hc (e_arH E.2.2.2.2.2.2.2.2.2.1 (by decide) n _) (fun q => by cases q) (by rw [arrV_size]; exact hin) rfl rfl hd (fun H1 e1 e2 e3 => k9 H1 _ ?_ ?_)
  · intro z hz
    rw [List.mem_singleton.mp hz]
    exact (a3.lt hk).1
  · exact a3.putA hk (hh ▸ e_st_J (fun g => rfl)) e1 e2 e3
/-- what an array of references of type number t may hold, by its kind -/
def e_elb (t : Nat) (d : e_K) : Bool := match t, d with
  | 4, .inl c => c == 6
  | 5, .inr (t', _) => t' == 4
  | 7, .inl c => c == 14
  | _, _ => false
def e_fitb (h : e_H) (t : Nat) (v : Option Nat) : Bool := match v with
  | none => true
  | some b => match e_k h b with
    | none => false
    | some d => e_elb t d
theorem e_fitb_of {h : e_H} {t b : Nat} (e : e_fitb h t (some b) = true) : ∃ d, e_k h b = some d ∧ e_elb t d = true := by
  unfold e_fitb at e
  simp only at e
  split at e
  · cases e
  · rename_i d hd
    exact ⟨d, hd, e⟩
def e_wR (h : e_H) (a t : Nat) (i : Int32) (v : Option Nat) : Option e_H := (e_ix h a t i).bind fun j => if e_fitb h t v = true then some (e_sR h a j v) else none
theorem e_wR_of {h h' : e_H} {a t : Nat} {i : Int32} {v : Option Nat} (e : e_wR h a t i v = some h') : ∃ n j, e_k h a = some (.inr (t, n)) ∧ ¬ (i < 0 ∨ n ≤ i.toNatClampNeg) ∧ j = i.toNatClampNeg ∧ j < n ∧ h' = e_sR h a j v ∧ e_fitb h t v = true := by
  unfold e_wR at e
  rw [Option.bind_eq_some_iff] at e
  obtain ⟨j, e1, e2⟩ := e
  obtain ⟨n, q1, q2, q3, q4⟩ := e_ix_of e1
  split at e2
  · rename_i hf
    cases e2
    exact ⟨n, j, q1, q2, q3, q4, rfl, hf⟩
  · cases e2
theorem e_asgR (vm : Vm) (c : ClassId) : vm.assignable c c = true := by
  unfold Vm.assignable
  unfold Vm.assignableAux
  simp
/-- what is stored, by its kind, is of the array's class -/
def e_el (t : Nat) (d : e_K) : Prop := match d with
  | .inl c => ∃ q, e_cl[c]? = some q ∧ e_T t = .object q.1
  | .inr (t', _) => t' < 8 ∧ e_T t = .array (e_T t')
theorem e_el_of {t : Nat} {d : e_K} (e : e_elb t d = true) : e_el t d := by
  unfold e_elb at e
  split at e
  · rename_i c
    have : c = 6 := by simpa using e
    subst this
    exact ⟨_, rfl, rfl⟩
  · rename_i t' n
    have : t' = 4 := by simpa using e
    subst this
    exact ⟨by decide, rfl⟩
  · rename_i c
    have : c = 14 := by simpa using e
    subst this
    exact ⟨_, rfl, rfl⟩
  · cases e
theorem e_asg {D : e_D} {B : Heap} {s : State} {H : Heap} (hG : e_G D B s) (hR : e_Rel D B h H) {t b : Nat} {d : e_K} (ht : t < 8) (hel0 : e_elb t d = true) (hb : e_k h b = some d) :
    ∃ (kA : Class) (comp : ClassId) (kc : Class) (cv : Cell), s.vm.classes[D.2.1 t]? = some kA ∧ kA.kind = .array comp (e_T t) ∧ s.vm.classes[comp]? = some kc ∧ H[b]? = some cv ∧ cv.vm = .none ∧ cv.cls = comp ∧ s.vm.assignable comp comp = true := by
  have hel := e_el_of hel0
  cases d with
  | inl c =>
    obtain ⟨q, hq, hT⟩ := hel
    obtain ⟨q', hq', cell, q1, q2, q3, -⟩ := (hR.2.2.2.2 b).ob hb
    cases hq.symm.trans hq'
    obtain ⟨kA, comp, k1, k2, k3⟩ := (hG.2.1 t ht).2.2 (by rw [hT]; rfl)
    have hat := (hG.1 c q hq).2
    rw [hT] at k3
    have hcomp : comp = D.1.1 c := Option.some.inj (k3.symm.trans hat.1)
    subst hcomp
    obtain ⟨kC, hkC, -⟩ := hat.2
    exact ⟨kA, _, kC, cell, k1, k2, hkC, q1, q3, q2, va_assign hat⟩
  | inr x =>
    obtain ⟨t', n⟩ := x
    obtain ⟨ht', hT⟩ := hel
    obtain ⟨-, hc⟩ := e_arR hR hb
    obtain ⟨kA, comp, k1, k2, k3⟩ := (hG.2.1 t ht).2.2 (by rw [hT]; rfl)
    have h4 := (hG.2.1 t' ht').2.1
    rw [hT] at k3
    have hcomp : comp = D.2.1 t' := Option.some.inj (k3.symm.trans h4)
    subst hcomp
    obtain ⟨kC, hkC, -⟩ := Vm.findClass_spec h4
    refine ⟨kA, _, kC, _, k1, k2, hkC, hc, rfl, rfl, ?_⟩
    exact e_asgR _ _
theorem S_aastV {t a b : Nat} {i : Int32} {Y : e_H → Option α} (hd : decode cc pc = .ok (.aastore, 1)) (ht : (e_T t).isReference = true) (hV : ∀ (g : e_H) (a j : Nat), e_V g (e_T t) a j = va_rf (e_R g a j)) (kk : ∀ h', e_wR h a t i (some b) = some h' → Sx K cc (pc + 1) L st h' (Y h') Q) : Sx K cc pc L (.ref b :: .int i :: .ref a :: st) h ((e_wR h a t i (some b)).bind Y) Q := by
  refine Sx.ask fun h' e => ?_
  intro v9 e9 q9
  obtain ⟨n, j, hk, hin, hj, hjn, hh, hb⟩ := e_wR_of e
  obtain ⟨d, hb, hel⟩ := e_fitb_of hb
  subst hj
  refine e_stEnd (by rw [hh]; rfl) (by rw [hh]; rfl) (kk h' e) e9 q9 ?_
  intro p e R s m args below meth c E ls H locs a3 k9 _ _
  obtain ⟨ht8, hc⟩ := e_arR a3 hk
  obtain ⟨kA, comp, kc, cv, f1, f2, f3, f4, f5, f6, f7⟩ := e_asg E.2.2.2.2.2.2.2.2.2.1 a3 ht8 hel hb
  refine W.aast E.1 E.2.1 hc (fun q h => by cases h) (fun h => by cases h) f1 f2 ht f3 ⟨fun q => hin (Or.inl q), by rw [arrV_size]; exact hjn⟩ f4 (fun q h => by rw [f5] at h; cases h) (by rw [f6]; exact f3) (by rw [f6]; exact f7) rfl rfl hd (fun H1 e1 e2 e3 => k9 H1 _ ?_ ?_)
  · intro z hz
    rw [List.mem_singleton.mp hz]
    exact (a3.lt hk).1
  · exact a3.putA hk (hh ▸ e_st_R (fun g => hV g _ _)) e1 e2 e3
/-- a String constant comes to a place of an array of Strings -/
def e_wS (h : e_H) (a : Nat) (i : Int32) (b : Nat) : Option e_H := (e_ix h a 6 i).map fun j => e_sR h a j (some b)
theorem S_aastS {A : Nat → Nat} {a x : Nat} {i : Int32} {Y : e_H → Option α} (hA : (k_D K).2.2.1 = A) (hx : x < 17) (hd : decode cc pc = .ok (.aastore, 1)) (kk : ∀ h', e_wS h a i (A x) = some h' → Sx K cc (pc + 1) L st h' (Y h') Q) : Sx K cc pc L (.ref (A x) :: .int i :: .ref a :: st) h ((e_wS h a i (A x)).bind Y) Q := by
  subst hA
  refine Sx.ask fun h' e => ?_
  intro v9 e9 q9
  have e' := e
  unfold e_wS at e'
  rw [Option.map_eq_some_iff] at e'
  obtain ⟨j, e1, hh⟩ := e'
  obtain ⟨n, hk, hin, hj, hjn⟩ := e_ix_of e1
  subst hj
  refine e_stEnd (by rw [← hh]; rfl) (by rw [← hh]; rfl) (kk h' e) e9 q9 ?_
  intro p e R s m args below meth c E ls H locs a3 k9 _ _
  have hG := E.2.2.2.2.2.2.2.2.2.1
  obtain ⟨ht8, hc⟩ := e_arR a3 hk
  obtain ⟨cv, g1, g2, g3, g4⟩ := (hG.2.2.2.2.2.2.1.1 x hx).1
  have hlt : (k_D K).2.2.1 x < (k_B K).size := (Array.getElem?_eq_some_iff.mp g1).1
  have f4 : H[(k_D K).2.2.1 x]? = some cv := (a3.2.2.1 _ hlt).trans g1
  obtain ⟨kA, comp, k1, k2, k3⟩ := (hG.2.1 6 (by decide)).2.2 rfl
  have hcomp : comp = cv.cls := Option.some.inj (k3.symm.trans g3)
  obtain ⟨kC, hkC, -⟩ := Vm.findClass_spec g3
  refine W.aast E.1 E.2.1 hc (fun q h => by cases h) (fun h => by cases h) k1 k2 rfl (by rw [hcomp]; exact hkC) ⟨fun q => hin (Or.inl q), by rw [arrV_size]; exact hjn⟩ f4 (fun q h => by rw [h] at g2; cases g2) hkC (by rw [hcomp]; exact e_asgR _ _) rfl rfl hd (fun H1 e1 e2 e3 => k9 H1 _ ?_ ?_)
  · intro z hz
    rw [List.mem_singleton.mp hz]
    exact (a3.lt hk).1
  · exact a3.putA hk (hh ▸ e_st_R (fun g => rfl)) e1 e2 e3
theorem S_alen {t a : Nat} {Y : Nat → Option α} (hd : decode cc pc = .ok (.arraylength, 1)) (kk : ∀ n, e_len h a t = some n → Sx K cc (pc + 1) L (.int (nI n) :: st) h (Y n) Q) : Sx K cc pc L (.ref a :: st) h ((e_len h a t).bind Y) Q := by
  refine Sx.ask fun n e => ?_
  intro v9 e9 q9
  refine e_lift (kk n e v9 e9 q9) ?_
  have hk := e_len_of e
  intro W9 p e R s m args below meth c E l ls H locs a1 a2 a3 a4
  obtain ⟨ht8, hc⟩ := e_arR a3 hk
  exact W.alen E.1 E.2.1 hc (e_arH E.2.2.2.2.2.2.2.2.2.1 ht8 n _) (by rw [arrV_size]; rfl) rfl rfl hd (W9 E l ls H locs a1 a2 a3 a4)
/-- the end of a row that makes a cell -/
theorem e_mkEnd {d : e_K} {w pc2 : Nat} {st2 stk : List Value} {v9 : α} {Y : Option α} (kk : Sx K cc pc2 L st2 (e_mk h d w) Y Q) (e9 : Y = some v9) (q9 : Q v9)
    (row : ∀ {p : Program} {e : Env} {R : Room} {s : State} {m : MethodId} {args : Array Value} {below : List Frame} {meth : Method} {c : Code} (_ : e_Ent K cc p R s m args meth c) (ls : Array Slot) (H : Heap) (locs : List Loc), e_Rel (k_D K) (k_B K) h H →
      (e_n h - e_n (k_h K)) + 1 ≤ R.cells → (e_u h - e_u (k_h K)) + w ≤ R.slots →
      (∀ H1 : Heap, e_Rel (k_D K) (k_B K) (e_mk h d w) H1 → W p (k_l K) e R s m args below meth c H1 locs ((e_n h - e_n (k_h K)) + 1) ((e_u h - e_u (k_h K)) + w) (e_Z K below s) (F0 m pc2 ls st2)) →
      W p (k_l K) e R s m args below meth c H locs (e_n h - e_n (k_h K)) (e_u h - e_u (k_h K)) (e_Z K below s) (F0 m pc ls stk)) : e_g K cc pc L stk h := by
  obtain ⟨k1, k2⟩ := kk v9 e9 q9
  have hn : e_n (e_mk h d w) = e_n h + 1 := rfl
  have hu : e_u (e_mk h d w) = e_u h + w := rfl
  obtain ⟨k1a, k1b⟩ := k1
  rw [hn] at k1a
  rw [hu] at k1b
  refine ⟨⟨by omega, by omega⟩, ?_⟩
  intro p e R s m args below meth c E l ls H locs a1 a2 a3 a4
  obtain ⟨l1, l2⟩ := l
  have E' := E
  obtain ⟨-, -, -, -, -, -, -, -, -, -, -, -, -, c1, c2⟩ := E
  refine row E' ls H locs a3 (by omega) (by omega) (fun H1 hR => ?_)
  have := k2 (p := p) (e := e) (R := R) (s := s) (m := m) (args := args) (below := below) (meth := meth) (c := c) E' ⟨by rw [hn]; omega, by rw [hu]; omega⟩ ls H1 locs a1 a2 hR a4
  rw [hn, hu] at this
  rw [show e_n h - e_n (k_h K) + 1 = e_n h + 1 - e_n (k_h K) by omega, show e_u h - e_u (k_h K) + w = e_u h + w - e_u (k_h K) by omega]
  exact this
def e_tyok : FieldType → Bool := fun t => match t with
  | .float => false
  | .double => false
  | _ => true
theorem e_dflt {h : e_H} {d : e_K} {w k : Nat} {ty : FieldType} (ht : e_tyok ty = true) : e_V (e_mk h d w) ty (e_n h) k = defaultValue ty := by
  unfold e_V
  cases ty <;> simp only [e_tyok, Bool.false_eq_true] at ht <;> simp only [e_I_mk, e_J_mk, e_R_mk, if_true] <;> rfl
theorem S_new {own C : String} {T : u_T} {idx c N : Nat} {Y : Nat → e_H → Option α} (hd : decode cc pc = .ok (.new idx, 3)) (hown : (k_M K).1.cls = own) (hq : e_cl[c]? = some (C, T, N)) (hty : ∀ k, k < N → e_tyok (e_ty c k) = true) (hl : Cond.classLink own idx C ∈ lw_all) (hi : Cond.instantiable C N ∈ lw_all) (hn : Cond.initialized C ∈ lw_all)
    (kk : ∀ a h', a = e_n h → h' = e_mk h (.inl c) N → Sx K cc (pc + 3) L (.ref a :: st) h' (Y a h') Q) : Sx K cc pc L st h (Y (e_n h) (e_mk h (.inl c) N)) Q := by
  intro v9 e9 q9
  refine e_mkEnd (kk _ _ rfl rfl) e9 q9 ?_
  intro p e R s m args below meth c0 E ls H locs a3 r1 r2 k9
  obtain ⟨hx, hb, -, -, hts, hown2, -, -, -, hG, -⟩ := E
  have hKn := hG.1 c _ hq
  obtain ⟨hin, hpty, -⟩ := e_cl_ok c _ hq
  subst hown
  refine W.newcK hx hb hown2 (hts _ hl) (hts _ hi) (hts _ hn) rfl hd r1 r2 hKn.2.1 a3.1 (fun H1 kC hkC e1 z1 o1 => k9 H1 ?_)
  refine a3.mk (z1.trans (by rw [a3.1])) (fun q hq2 => o1 q (by rw [← a3.1]; exact hq2)) ?_
  unfold e_At
  rw [e_k_mk, if_pos rfl]
  exact ⟨_, hq, (u_born (e_ty c) hts hin hKn hkC e1 hpty).to (fun k hk => (e_dflt (hty k hk)).symm)⟩
def e_mkb {α : Type} (h : e_H) (d : e_K) (w : Nat) (Y : Nat → e_H → Option α) : Option α := Y (e_n h) (e_mk h d w)
theorem S_newB {own C : String} {T : u_T} {idx c N : Nat} {Y : Nat → e_H → Option α} (hd : decode cc pc = .ok (.new idx, 3)) (hown : (k_M K).1.cls = own) (hq : e_cl[c]? = some (C, T, N)) (hty : ∀ k, k < N → e_tyok (e_ty c k) = true) (hl : Cond.classLink own idx C ∈ lw_all) (hi : Cond.instantiable C N ∈ lw_all) (hn : Cond.initialized C ∈ lw_all)
    (kk : ∀ a h', a = e_n h → h' = e_mk h (.inl c) N → Sx K cc (pc + 3) L (.ref a :: st) h' (Y a h') Q) : Sx K cc pc L st h (e_mkb h (.inl c) N Y) Q := S_new hd hown hq hty hl hi hn kk
/-- a new array; its length is small -/
theorem e_nat_of {i : Int32} {n : Nat} (e : e_nat i = some n) : ¬ i < 0 ∧ i.toNatClampNeg = n ∧ n ≤ 100000 := by
  unfold e_nat at e
  split at e
  · cases e
  · rename_i hi
    cases e
    exact ⟨fun q => hi (Or.inl q), rfl, Nat.not_lt.mp fun q => hi (Or.inr q)⟩
theorem S_newa {t : Nat} {at9 : ArrayType} {i : Int32} {Y : Nat → Option α} {Z : Nat → Nat → e_H → Option α} (hd : decode cc pc = .ok (.newarray at9, 2)) (ht : t < 4) (hty : newarray.typeOf at9 = e_T t) (hw : Cond.arrayClass (e_T t) ∈ lw_all) (hY : ∀ n, Y n = Z n (e_n h) (e_mk h (.inr (t, n)) n))
    (kk : ∀ n a h', e_nat i = some n → a = e_n h → h' = e_mk h (.inr (t, n)) n → Sx K cc (pc + 2) L (.ref a :: st) h' (Z n a h') Q) : Sx K cc pc L (.int i :: st) h ((e_nat i).bind Y) Q := by
  refine Sx.ask fun n e => ?_
  rw [hY]
  intro v9 e9 q9
  obtain ⟨i1, i2, i3⟩ := e_nat_of e
  refine e_mkEnd (kk n _ _ e rfl rfl) e9 q9 ?_
  intro p e R s m args below meth c0 E ls H locs a3 r1 r2 k9
  obtain ⟨hx, hb, -, -, hts, hown2, -, -, -, hG, -⟩ := E
  have hcb : componentBytes (newarray.typeOf at9) ≤ 8 := by cases at9 <;> decide
  refine va_newaK hx hb (by rw [hty]; exact hts _ hw) rfl hd rfl i1 i2 (Nat.le_trans (Nat.mul_le_mul i3 hcb) (by decide)) r1 r2 a3.1 (fun H1 cA e1 z1 o1 hAr hNm => k9 H1 ?_)
  refine a3.mk (z1.trans (by rw [a3.1])) (fun q hq2 => o1 q (by rw [← a3.1]; exact hq2)) ?_
  unfold e_At
  rw [e_k_mk, if_pos rfl]
  refine ⟨by omega, ?_⟩
  rw [e1]
  rw [hty] at hNm
  have h5 : cA = (k_D K).2.1 t := Option.some.inj (hNm.symm.trans (hG.2.1 t (by omega)).2.1)
  rw [h5]
  congr 1
  congr 1
  funext j
  rw [e_dflt (by match t, ht with | 0, _ => rfl | 1, _ => rfl | 2, _ => rfl | 3, _ => rfl), hty]
theorem S_anewO {own C : String} {idx t : Nat} {i : Int32} {Y : Nat → Option α} {Z : Nat → Nat → e_H → Option α} (hd : decode cc pc = .ok (.anewarray idx, 3)) (hown : (k_M K).1.cls = own) (ht : t < 8) (hT : e_T t = .object C) (hl : Cond.classLink own idx C ∈ lw_all) (hw : Cond.arrayOver (.object C) ∈ lw_tbl) (hY : ∀ n, Y n = Z n (e_n h) (e_mk h (.inr (t, n)) n))
    (kk : ∀ n a h', e_nat i = some n → a = e_n h → h' = e_mk h (.inr (t, n)) n → Sx K cc (pc + 3) L (.ref a :: st) h' (Z n a h') Q) : Sx K cc pc L (.int i :: st) h ((e_nat i).bind Y) Q := by
  refine Sx.ask fun n e => ?_
  rw [hY]
  intro v9 e9 q9
  obtain ⟨i1, i2, i3⟩ := e_nat_of e
  refine e_mkEnd (kk n _ _ e rfl rfl) e9 q9 ?_
  intro p e R s m args below meth c0 E ls H locs a3 r1 r2 k9
  obtain ⟨hx, hb, -, -, hts, hown2, -, -, -, hG, -⟩ := E
  subst hown
  subst i2
  have hsz := a3.1
  refine W.anew hx hb hown2 (hts _ hl) (e_nw_use rfl (hG.2.2.1 _ hw rfl)) rfl hd rfl i1 (by omega) r1 r2 (fun cA kA comp f1 f2 f3 f4 => ?_)
  rw [hsz]
  refine k9 _ ?_
  refine a3.mk (Array.size_push _) (fun q hq2 => by rw [Array.getElem?_push, if_neg (Nat.ne_of_lt hq2)]) ?_
  unfold e_At
  rw [e_k_mk, if_pos rfl]
  refine ⟨ht, ?_⟩
  rw [← hsz, Array.getElem?_push_size, arrV_new]
  have h5 : cA = (k_D K).2.1 t := Option.some.inj (f1.symm.trans (by rw [← hT]; exact (hG.2.1 t ht).2.1))
  rw [h5]
  congr 1
  congr 1
  funext j
  rw [hsz, e_dflt (by rw [hT]; rfl), hT]
  rfl
theorem S_anewA {own : String} {ty : FieldType} {idx t : Nat} {i : Int32} {Y : Nat → Option α} {Z : Nat → Nat → e_H → Option α} (hd : decode cc pc = .ok (.anewarray idx, 3)) (hown : (k_M K).1.cls = own) (ht : t < 8) (hT : e_T t = .array ty) (hl : Cond.classLink own idx (FieldType.array ty).toString ∈ lw_all) (hw : Cond.arrayOver (.array ty) ∈ lw_tbl) (hY : ∀ n, Y n = Z n (e_n h) (e_mk h (.inr (t, n)) n))
    (kk : ∀ n a h', e_nat i = some n → a = e_n h → h' = e_mk h (.inr (t, n)) n → Sx K cc (pc + 3) L (.ref a :: st) h' (Z n a h') Q) : Sx K cc pc L (.int i :: st) h ((e_nat i).bind Y) Q := by
  refine Sx.ask fun n e => ?_
  rw [hY]
  intro v9 e9 q9
  obtain ⟨i1, i2, i3⟩ := e_nat_of e
  refine e_mkEnd (kk n _ _ e rfl rfl) e9 q9 ?_
  intro p e R s m args below meth c0 E ls H locs a3 r1 r2 k9
  obtain ⟨hx, hb, -, -, hts, hown2, -, -, -, hG, -⟩ := E
  subst hown
  subst i2
  have hsz := a3.1
  refine W.anewA hx hb hown2 (hts _ hl) (e_nw_use rfl (hG.2.2.1 _ hw rfl)) rfl hd rfl i1 (by omega) r1 r2 (fun cA kA comp f1 f2 f3 f4 => ?_)
  rw [hsz]
  refine k9 _ ?_
  refine a3.mk (Array.size_push _) (fun q hq2 => by rw [Array.getElem?_push, if_neg (Nat.ne_of_lt hq2)]) ?_
  unfold e_At
  rw [e_k_mk, if_pos rfl]
  refine ⟨ht, ?_⟩
  rw [← hsz, Array.getElem?_push_size, arrV_new]
  have h5 : cA = (k_D K).2.1 t := Option.some.inj (f1.symm.trans (by rw [← hT]; exact (hG.2.1 t ht).2.1))
  rw [h5]
  congr 1
  congr 1
  funext j
  rw [hsz, e_dflt (by rw [hT]; rfl), hT]
  rfl
theorem S_newaB {t : Nat} {at9 : ArrayType} {i : Int32} {Z : Nat → Nat → e_H → Option α} (hd : decode cc pc = .ok (.newarray at9, 2)) (ht : t < 4) (hty : newarray.typeOf at9 = e_T t) (hw : Cond.arrayClass (e_T t) ∈ lw_all)
    (kk : ∀ n a h', e_nat i = some n → a = e_n h → h' = e_mk h (.inr (t, n)) n → Sx K cc (pc + 2) L (.ref a :: st) h' (Z n a h') Q) : Sx K cc pc L (.int i :: st) h ((e_nat i).bind fun n => e_mkb h (.inr (t, n)) n (Z n)) Q := S_newa hd ht hty hw (fun _ => rfl) kk
theorem S_anewOB {own C : String} {idx t : Nat} {i : Int32} {Z : Nat → Nat → e_H → Option α} (hd : decode cc pc = .ok (.anewarray idx, 3)) (hown : (k_M K).1.cls = own) (ht : t < 8) (hT : e_T t = .object C) (hl : Cond.classLink own idx C ∈ lw_all) (hw : Cond.arrayOver (.object C) ∈ lw_tbl)
    (kk : ∀ n a h', e_nat i = some n → a = e_n h → h' = e_mk h (.inr (t, n)) n → Sx K cc (pc + 3) L (.ref a :: st) h' (Z n a h') Q) : Sx K cc pc L (.int i :: st) h ((e_nat i).bind fun n => e_mkb h (.inr (t, n)) n (Z n)) Q := S_anewO hd hown ht hT hl hw (fun _ => rfl) kk
theorem S_anewAB {own : String} {ty : FieldType} {idx t : Nat} {i : Int32} {Z : Nat → Nat → e_H → Option α} (hd : decode cc pc = .ok (.anewarray idx, 3)) (hown : (k_M K).1.cls = own) (ht : t < 8) (hT : e_T t = .array ty) (hl : Cond.classLink own idx (FieldType.array ty).toString ∈ lw_all) (hw : Cond.arrayOver (.array ty) ∈ lw_tbl)
    (kk : ∀ n a h', e_nat i = some n → a = e_n h → h' = e_mk h (.inr (t, n)) n → Sx K cc (pc + 3) L (.ref a :: st) h' (Z n a h') Q) : Sx K cc pc L (.int i :: st) h ((e_nat i).bind fun n => e_mkb h (.inr (t, n)) n (Z n)) Q := S_anewA hd hown ht hT hl hw (fun _ => rfl) kk
/-- Object.<init> -/
theorem S_objInit {own : String} {idx a : Nat} {X : Option α} (hd : decode cc pc = .ok (.invokespecial idx, 3)) (hown : (k_M K).1.cls = own) (hl : Cond.methodLink own idx ⟨"java/lang/Object", "<init>", "()V"⟩ ∈ lw_all) (hdp : 1 ≤ k_d K) (hst : (st.map fun v => v.category).sum ≤ 52) (k : Sx K cc (pc + 3) L st h X Q) : Sx K cc pc L (.ref a :: st) h X Q := by
  intro v9 e9 q9
  refine e_lift (k v9 e9 q9) ?_
  intro W9 p e R s m args below meth c E l ls H locs a1 a2 a3 a4
  have E' := E
  obtain ⟨hx, hb, hml, -, hts, hown2, -, -, -, -, -, d1, d2, -⟩ := E
  subst hown
  exact W.objInit hx hb hown2 (hts _ hl) (hts _ q141) (hts _ q142) rfl (a1.1.trans (a2.trans hml.symm)) rfl hd (by omega) (by show 2 * 0 + _ + 12 ≤ _; omega) (W9 E' l ls H locs a1 a2 a3 a4)
/-- System.arraycopy -/
def e_cpI (h : e_H) (s : Nat) (p : Int32) (d : Nat) (q n : Int32) : Option e_H := match e_len h s 0, e_len h d 0 with
  | some m1, some m2 => if p < 0 ∨ q < 0 ∨ n < 0 ∨ m1 < p.toNatClampNeg + n.toNatClampNeg ∨ m2 < q.toNatClampNeg + n.toNatClampNeg then none else some (e_cI h s p.toNatClampNeg d q.toNatClampNeg n.toNatClampNeg)
  | _, _ => none
def e_cpR (h : e_H) (t s : Nat) (p : Int32) (d : Nat) (q n : Int32) : Option e_H := match e_len h s t, e_len h d t with
  | some m1, some m2 => if p < 0 ∨ q < 0 ∨ n < 0 ∨ m1 < p.toNatClampNeg + n.toNatClampNeg ∨ m2 < q.toNatClampNeg + n.toNatClampNeg ∨ ¬ (List.range n.toNatClampNeg).all (fun j => e_fitb h t (e_R h s (p.toNatClampNeg + j))) = true then none else some (e_cR h s p.toNatClampNeg d q.toNatClampNeg n.toNatClampNeg)
  | _, _ => none
theorem e_cpI_of {h h' : e_H} {s d : Nat} {p q n : Int32} (e : e_cpI h s p d q n = some h') : ∃ m1 m2, e_k h s = some (.inr (0, m1)) ∧ e_k h d = some (.inr (0, m2)) ∧ ¬ p < 0 ∧ ¬ q < 0 ∧ ¬ n < 0 ∧ p.toNatClampNeg + n.toNatClampNeg ≤ m1 ∧ q.toNatClampNeg + n.toNatClampNeg ≤ m2 ∧ h' = e_cI h s p.toNatClampNeg d q.toNatClampNeg n.toNatClampNeg := by
  unfold e_cpI at e
  split at e
  · rename_i m1 m2 h1 h2
    split at e
    · cases e
    · rename_i hc
      cases e
      simp only [not_or, Nat.not_lt] at hc
      exact ⟨m1, m2, e_len_of h1, e_len_of h2, hc.1, hc.2.1, hc.2.2.1, hc.2.2.2.1, hc.2.2.2.2, rfl⟩
  · cases e
theorem e_cpR_of {h h' : e_H} {t s d : Nat} {p q n : Int32} (e : e_cpR h t s p d q n = some h') : ∃ m1 m2, e_k h s = some (.inr (t, m1)) ∧ e_k h d = some (.inr (t, m2)) ∧ ¬ p < 0 ∧ ¬ q < 0 ∧ ¬ n < 0 ∧ p.toNatClampNeg + n.toNatClampNeg ≤ m1 ∧ q.toNatClampNeg + n.toNatClampNeg ≤ m2 ∧ (∀ j, j < n.toNatClampNeg → e_fitb h t (e_R h s (p.toNatClampNeg + j)) = true) ∧ h' = e_cR h s p.toNatClampNeg d q.toNatClampNeg n.toNatClampNeg := by
  unfold e_cpR at e
  split at e
  · rename_i m1 m2 h1 h2
    split at e
    · cases e
    · rename_i hc
      cases e
      simp only [not_or, Nat.not_lt, Decidable.not_not] at hc
      exact ⟨m1, m2, e_len_of h1, e_len_of h2, hc.1, hc.2.1, hc.2.2.1, hc.2.2.2.1, hc.2.2.2.2.1, fun j hj => List.all_eq_true.mp hc.2.2.2.2.2 j (List.mem_range.mpr hj), rfl⟩
  · cases e
theorem e_nn : ∀ z : Int32, ¬ z < 0 → z.toInt = (z.toNatClampNeg : Int) := by
  intro z hz
  have hz0 : (0 : Int) ≤ z.toInt := by
    have := Int32.not_lt.mp hz
    simpa using Int32.le_iff_toInt_le.mp this
  show z.toInt = ((z.toInt.toNat : Nat) : Int)
  omega
theorem S_copy {own : String} {idx t s d m1 m2 : Nat} {p q n : Int32} {h' : e_H} {v9 : α} {Y : Option α} (hd : decode cc pc = .ok (.invokestatic idx, 3)) (hown : (k_M K).1.cls = own) (hl : Cond.methodLink own idx ⟨"java/lang/System", "arraycopy", "(Ljava/lang/Object;ILjava/lang/Object;II)V"⟩ ∈ lw_all) (hdp : 1 ≤ k_d K) (hst : (st.map fun v => v.category).sum ≤ 8)
    (ks : e_k h s = some (.inr (t, m1))) (kd : e_k h d = some (.inr (t, m2))) (h1 : ¬ p < 0) (h2 : ¬ q < 0) (h3 : ¬ n < 0) (h4 : p.toNatClampNeg + n.toNatClampNeg ≤ m1) (h5 : q.toNatClampNeg + n.toNatClampNeg ≤ m2)
    (hrk : t = 0 ∨ ((e_T t).isReference = true ∧ (∀ (g : e_H) (a j : Nat), e_V g (e_T t) a j = va_rf (e_R g a j)) ∧ ∀ j, j < n.toNatClampNeg → e_fitb h t (e_R h s (p.toNatClampNeg + j)) = true))
    (hk' : ∀ b, e_k h' b = e_k h b) (hn' : e_n h' = e_n h) (hu' : e_u h' = e_u h) (hV' : ∀ (ty : FieldType) (b j : Nat), b ≠ d → e_V h' ty b j = e_V h ty b j)
    (hV2 : ∀ j, e_V h' (e_T t) d j = va_cpy (fun j => e_V h (e_T t) s j) (fun j => e_V h (e_T t) d j) p.toNatClampNeg q.toNatClampNeg n.toNatClampNeg j)
    (kk : Sx K cc (pc + 3) L st h' Y Q) (e9 : Y = some v9) (q9 : Q v9) : e_g K cc pc L (.int n :: .int q :: .ref d :: .int p :: .ref s :: st) h := by
  refine e_stEnd hn' hu' kk e9 q9 ?_
  intro p0 e R s0 m args below meth c E ls H locs hR k9 a1 a2
  obtain ⟨ht8, hc0⟩ := e_arR hR ks
  obtain ⟨-, hc1⟩ := e_arR hR kd
  obtain ⟨hx, hb, hml, -, hts, hown2, -, -, -, hG, -, d1, d2, -⟩ := E
  subst hown
  have hAr := hG.2.1 t ht8
  obtain ⟨-, kA, hkA, cmA, hkkA⟩ := hAr.1 m1 (fun j => e_V h (e_T t) s j)
  have hkA2 : s0.vm.classes[(arrV ((k_D K).2.1 t) m2 (fun j => e_V h (e_T t) d j)).cls]? = some kA := hkA
  intro T hT X
  have mlk : c.maxLocals = ls.size := by rw [hml, a1.1, a2]
  obtain ⟨vm', X', step⟩ := X.arraycopy hx hown2 (hts _ hl) (hts _ q919) (hts _ q918) (hts _ q127) (src := s) (dst := d) (cs := arrV ((k_D K).2.1 t) m1 (fun j => e_V h (e_T t) s j)) (cd := arrV ((k_D K).2.1 t) m2 (fun j => e_V h (e_T t) d j)) (srcPos := p) (destPos := q) (n := n) (by rw [hT]; exact hc0) (by rw [hT]; exact hc1)
    (fun _ h => by cases h) (fun _ h => by cases h) (fun h => by cases h) (fun h => by cases h) hkA hkA2 hkkA hkkA (by
      rcases hrk with rfl | ⟨hr, -⟩
      · rfl
      · cases hty : e_T t <;> rw [hty] at hr <;> simp [FieldType.isReference] at hr <;> rfl) h1 h2 h3
    (by rw [e_nn p h1, e_nn n h3, arrV_size]; omega)
    (by rw [e_nn q h2, e_nn n h3, arrV_size]; omega)
    (fun vm₁ hal i hi => by
      have e : (arrV ((k_D K).2.1 t) m1 (fun j => e_V h (e_T t) s j)).slots.getD (p.toNatClampNeg + i) .null = e_V h (e_T t) s (p.toNatClampNeg + i) := by
        rw [Array.getD_eq_getD_getElem?, arrV_read _ _ (by omega)]
        rfl
      rw [e]
      rcases hrk with rfl | ⟨hr, hV, hf⟩
      · exact ⟨rfl, trivial⟩
      · rw [hV]
        have hfi := hf i hi
        cases hy : e_R h s (p.toNatClampNeg + i) with
        | none => exact ⟨(e_narR hr none).2, trivial⟩
        | some y =>
          rw [hy] at hfi
          obtain ⟨dd, hdd, hel⟩ := e_fitb_of hfi
          obtain ⟨kB, comp, kc, cv, f1, f2, f3, f4, f5, f6, f7⟩ := e_asg hG hR ht8 hel hdd
          cases hkA.symm.trans f1
          cases hkkA.symm.trans f2
          obtain ⟨kC', hkC', -⟩ := hal.2.2 _ _ f3
          refine ⟨(e_narR hr (some y)).2, cv, (show T.heap[y]? = some cv by rw [hT]; exact f4), (fun q h => by rw [h] at f5; cases f5), ⟨kC', by rw [f6]; exact hkC'⟩, ⟨kC', hkC'⟩, ?_⟩
          show vm₁.assignable _ _ = true
          rw [f6]
          exact e_asgR _ _)
    (g := F0 m pc ls (.int n :: .int q :: .ref d :: .int p :: .ref s :: st)) rfl (by rw [mlk]) (rest := st) rfl (by rw [hb]; exact hd) (by omega) (by
      show 2 * 0 + _ + _ ≤ _
      have hw : nativeFrameWords "java/lang/System" "arraycopy" 5 ≤ 30 := by decide +kernel
      omega)
  have e1 : copied (arrV ((k_D K).2.1 t) m1 (fun j => e_V h (e_T t) s j)) (arrV ((k_D K).2.1 t) m2 (fun j => e_V h (e_T t) d j)) p q n = arrV ((k_D K).2.1 t) m2 (fun j => e_V h' (e_T t) d j) := by
    have := va_copied (fun z : Value => z) ((k_D K).2.1 t) ((k_D K).2.1 t) (n1 := m2) (dp := q.toNatClampNeg) (fun j => e_V h (e_T t) s j) (fun j => e_V h (e_T t) d j) h4
    refine this.trans ?_
    congr 1
    funext j
    exact (hV2 j).symm
  rw [e1] at X' step
  have hlt : d < H.size := (Array.getElem?_eq_some_iff.mp hc1).1
  have hheap : ((T.setVm vm').setCell d (arrV ((k_D K).2.1 t) m2 (fun j => e_V h' (e_T t) d j))).heap = H.setIfInBounds d (arrV ((k_D K).2.1 t) m2 (fun j => e_V h' (e_T t) d j)) := by rw [← hT]; rfl
  have hbase := (hR.lt kd).1
  obtain ⟨t2, a9, b9⟩ := k9 (H.setIfInBounds d (arrV ((k_D K).2.1 t) m2 (fun j => e_V h' (e_T t) d j))) _ (fun z hz => by
      obtain ⟨w, -, hw⟩ := List.mem_map.mp hz
      rw [← hw]
      exact hbase) (hR.put (a := d) (by simp) (fun x hx => by simp [Array.getElem?_setIfInBounds, Ne.symm hx]) hk' hn' hV' hbase (by
        unfold e_At
        rw [hk', kd]
        exact ⟨ht8, by simp [Array.getElem?_setIfInBounds, hlt]⟩)) _ hheap X'
  exact ⟨t2, step t2 a9, b9⟩
theorem S_copyI {own : String} {idx s d : Nat} {p q n : Int32} {Y : e_H → Option α} (hd : decode cc pc = .ok (.invokestatic idx, 3)) (hown : (k_M K).1.cls = own) (hl : Cond.methodLink own idx ⟨"java/lang/System", "arraycopy", "(Ljava/lang/Object;ILjava/lang/Object;II)V"⟩ ∈ lw_all) (hdp : 1 ≤ k_d K) (hst : (st.map fun v => v.category).sum ≤ 8)
    (kk : ∀ h', e_cpI h s p d q n = some h' → Sx K cc (pc + 3) L st h' (Y h') Q) : Sx K cc pc L (.int n :: .int q :: .ref d :: .int p :: .ref s :: st) h ((e_cpI h s p d q n).bind Y) Q := by
  refine Sx.ask fun h' e => ?_
  intro v9 e9 q9
  obtain ⟨m1, m2, ks, kd, h1, h2, h3, h4, h5, hh⟩ := e_cpI_of e
  refine S_copy hd hown hl hdp hst ks kd h1 h2 h3 h4 h5 (Or.inl rfl) (by rw [hh]; exact fun _ => rfl) (by rw [hh]; rfl) (by rw [hh]; rfl) ?_ ?_ (kk h' e) e9 q9
  · intro ty b j hb
    rw [hh]
    unfold e_V
    rw [e_I_cI, if_neg (fun x => hb x.1), e_J_cI, e_R_cI]
  · intro j
    rw [hh]
    show Value.int (e_I (e_cI h s _ d _ _) d j) = _
    rw [e_I_cI]
    unfold va_cpy
    by_cases hc : q.toNatClampNeg ≤ j ∧ j < q.toNatClampNeg + n.toNatClampNeg
    · rw [if_pos ⟨rfl, hc⟩, if_pos hc]; rfl
    · rw [if_neg (fun x => hc x.2), if_neg hc]; rfl
theorem S_copyR {own : String} {idx t s d : Nat} {p q n : Int32} {Y : e_H → Option α} (hd : decode cc pc = .ok (.invokestatic idx, 3)) (hown : (k_M K).1.cls = own) (hl : Cond.methodLink own idx ⟨"java/lang/System", "arraycopy", "(Ljava/lang/Object;ILjava/lang/Object;II)V"⟩ ∈ lw_all) (hdp : 1 ≤ k_d K) (hst : (st.map fun v => v.category).sum ≤ 8)
    (ht : (e_T t).isReference = true) (hV : ∀ (g : e_H) (a j : Nat), e_V g (e_T t) a j = va_rf (e_R g a j)) (kk : ∀ h', e_cpR h t s p d q n = some h' → Sx K cc (pc + 3) L st h' (Y h') Q) : Sx K cc pc L (.int n :: .int q :: .ref d :: .int p :: .ref s :: st) h ((e_cpR h t s p d q n).bind Y) Q := by
  refine Sx.ask fun h' e => ?_
  intro v9 e9 q9
  obtain ⟨m1, m2, ks, kd, h1, h2, h3, h4, h5, hf, hh⟩ := e_cpR_of e
  refine S_copy hd hown hl hdp hst ks kd h1 h2 h3 h4 h5 (Or.inr ⟨ht, hV, hf⟩) (by rw [hh]; exact fun _ => rfl) (by rw [hh]; rfl) (by rw [hh]; rfl) ?_ ?_ (kk h' e) e9 q9
  · intro ty b j hb
    rw [hh]
    unfold e_V
    rw [e_R_cR, if_neg (fun x => hb x.1), e_J_cR, e_I_cR]
  · intro j
    rw [hV, hh, e_R_cR]
    unfold va_cpy
    by_cases hc : q.toNatClampNeg ≤ j ∧ j < q.toNatClampNeg + n.toNatClampNeg
    · rw [if_pos ⟨rfl, hc⟩, if_pos hc]; exact (hV _ _ _).symm
    · rw [if_neg (fun x => hc x.2), if_neg hc]; exact (hV _ _ _).symm

end ARR
