/-! PURE LAYER 10: what the model tells of a band -/
def MO (h : e_H) (m r : Nat) : Prop :=
  (e_k h m = some (.inl 8)) ∧
  (e_R h m 15 = some r)
theorem MO.k {h : e_H} {m r : Nat} (w__ : MO h m r) : e_k h m = some (.inl 8) := w__.1
theorem MO.r {h : e_H} {m r : Nat} (w__ : MO h m r) : e_R h m 15 = some r := w__.2
section
variable {h : e_H} {m r sz b : Nat} {P : Bd}
theorem MO.is (o : MO h m r) : e_is h m 8 = some () := p_is o.k
theorem MO.now (o : MO h m r) : e_fA h m 8 15 = some r := p_fA o.k o.r
theorem MO.fn (o : MO h m r) (w : RB h r sz b P) : f_X10_corners h m (nI b) = some (nI P.n) := by
  simp only [f_X10_corners, o.now, w.fn, Option.bind_some]
theorem MO.ax (o : MO h m r) (w : RB h r sz b P) {j : Nat} (hj : j < 10000) : f_X10_x h m (nI b) (nI j) = some (P.x (j % P.n)) := by
  have := w.le
  simp only [f_X10_x, o.now, o.fn w, Option.bind_some, w.n0, if_false, pk_rem (show j < 2 ^ 31 by omega) w.pos (show P.n < 2 ^ 31 by omega), w.ax (Nat.mod_lt j w.pos)]
theorem MO.ay (o : MO h m r) (w : RB h r sz b P) {j : Nat} (hj : j < 10000) : f_X10_y h m (nI b) (nI j) = some (P.y (j % P.n)) := by
  have := w.le
  simp only [f_X10_y, o.now, o.fn w, Option.bind_some, w.n0, if_false, pk_rem (show j < 2 ^ 31 by omega) w.pos (show P.n < 2 ^ 31 by omega), w.ay (Nat.mod_lt j w.pos)]
theorem MO.x0 (o : MO h m r) (w : RB h r sz b P) {i : Nat} (hi : i < P.n) : f_X10_x h m (nI b) (nI i) = some (P.x i) := by rw [o.ax w (by have := w.le; omega), Nat.mod_eq_of_lt hi]
theorem MO.y0 (o : MO h m r) (w : RB h r sz b P) {i : Nat} (hi : i < P.n) : f_X10_y h m (nI b) (nI i) = some (P.y i) := by rw [o.ay w (by have := w.le; omega), Nat.mod_eq_of_lt hi]
theorem MO.x1 (o : MO h m r) (w : RB h r sz b P) {i : Nat} (hi : i < P.n) : f_X10_x h m (nI b) (nI (i + 1)) = some (P.x (P.nx i)) := by rw [o.ax w (by have := w.le; omega), P.nx_mod hi]
theorem MO.y1 (o : MO h m r) (w : RB h r sz b P) {i : Nat} (hi : i < P.n) : f_X10_y h m (nI b) (nI (i + 1)) = some (P.y (P.nx i)) := by rw [o.ay w (by have := w.le; omega), P.nx_mod hi]
theorem MO.xp (o : MO h m r) (w : RB h r sz b P) {i : Nat} (hi : i < P.n) : f_X10_x h m (nI b) (nI i + nI P.n - 1) = some (P.x (P.pv i)) := by
  rw [show (1 : Int32) = nI 1 from rfl, p_add, p_sub (by omega), o.ax w (by have := w.le; omega), P.pv_mod hi]
theorem MO.yp (o : MO h m r) (w : RB h r sz b P) {i : Nat} (hi : i < P.n) : f_X10_y h m (nI b) (nI i + nI P.n - 1) = some (P.y (P.pv i)) := by
  rw [show (1 : Int32) = nI 1 from rfl, p_add, p_sub (by omega), o.ay w (by have := w.le; omega), P.pv_mod hi]
theorem MO.signedArea (o : MO h m r) (w : RB h r sz b P) {F : Nat} (hF : 9 < F) : f_X10_signedArea F h m (nI b) = some P.area := by
  have hl : lp_X10_signedArea_4 F h m (nI b) F 0 0 = some P.area := by
    refine lp_all2 (lp := lp_X10_signedArea_4 F h m (nI b)) (fun i => sumTo (fun i => P.x i * P.y (P.nx i) - P.x (P.nx i) * P.y i) i) nI P.n P.area (fun i hi f => ?_) (fun f => ?_) (by have := w.le; omega)
    · simp only [lp_X10_signedArea_4, o.is, o.fn w, o.x0 w hi, o.y0 w hi, o.x1 w hi, o.y1 w hi, Option.bind_some, w.nle hi, if_false, ← nI_succ, sumTo]
    · simp only [lp_X10_signedArea_4, o.is, o.fn w, Option.bind_some, Int32.le_refl, if_true, Bd.area]
  simp only [f_X10_signedArea, hl, Option.bind_some]
theorem MO.area (o : MO h m r) (w : RB h r sz b P) {F : Nat} (hF : 9 < F) : f_X10_area F h m (nI b) = some (g_abs P.area) := by
  simp only [f_X10_area, o.is, o.signedArea w hF, f_size, Option.bind_some]
theorem MO.on (o : MO h m r) (w : RB h r sz b P) {F : Nat} (hF : 20 ≤ F) (hP : P.fit) : f_X10_onMany F h m (nI b) = some P.on := by
  have hl : lp_X10_onMany_4 F h m (nI b) F 0 0 = some P.on := by
    refine lp_all2 (lp := lp_X10_onMany_4 F h m (nI b)) (fun i => sumTo (fun i => g_gcd (P.x (P.nx i) - P.x i) (P.y (P.nx i) - P.y i)) i) nI P.n P.on (fun i hi f => ?_) (fun f => ?_) (by have := w.le; omega)
    · have hc : f_X10_common F (P.x (P.nx i) - P.x i) (P.y (P.nx i) - P.y i) = some (g_gcd (P.x (P.nx i) - P.x i) (P.y (P.nx i) - P.y i)) := by
        obtain ⟨a1, b1, h1, h2, h3, h4⟩ := hP.2 i hi
        obtain ⟨a2, b2, h5, h6, h7, h8⟩ := hP.2 _ (P.nx_lt hi)
        rw [h3, h4, h7, h8]
        exact f_common10 hF (g_s9_sub h5 h1) (g_s9_sub h6 h2)
      simp only [lp_X10_onMany_4, o.is, o.fn w, o.x0 w hi, o.y0 w hi, o.x1 w hi, o.y1 w hi, Option.bind_some, w.nle hi, if_false, ← nI_succ, sumTo, hc]
    · simp only [lp_X10_onMany_4, o.is, o.fn w, Option.bind_some, Int32.le_refl, if_true, Bd.on]
  simp only [f_X10_onMany, hl, Option.bind_some]
theorem MO.within (o : MO h m r) (w : RB h r sz b P) {F : Nat} (hF : 20 ≤ F) (hP : P.fit) : f_X10_within F h m (nI b) = some P.within := by
  simp only [f_X10_within, o.is, o.area w (show 9 < F by omega), o.on w hF hP, Option.bind_some]
  rfl
/-- the model's count of bent corners -/
def Bd.bentM (P : Bd) : Int32 := sumTo (fun i => b2i (decide (g_sg (P.tn i) ≠ g_sg P.area))) P.n
theorem MO.bent (o : MO h m r) (w : RB h r sz b P) {F : Nat} (hF : 9 < F) : f_X10_bent F h m (nI b) = some P.bentM := by
  have hl : lp_X10_bent_14 F h m (nI b) (g_sg P.area) F 0 0 = some P.bentM := by
    refine lp_all2 (lp := lp_X10_bent_14 F h m (nI b) (g_sg P.area)) (fun i => sumTo (fun i => b2i (decide (g_sg (P.tn i) ≠ g_sg P.area))) i) nI P.n P.bentM (fun i hi f => ?_) (fun f => ?_) (by have := w.le; omega)
    · simp only [lp_X10_bent_14, o.fn w, o.now, w.turnAt hi, Option.bind_some, w.nle hi, if_false, ← nI_succ, sumTo]
      by_cases q : g_sg (P.tn i) = g_sg P.area <;> simp [q, b2i]
    · simp only [lp_X10_bent_14, o.fn w, Option.bind_some, Int32.le_refl, if_true, Bd.bentM]
  simp only [f_X10_bent, o.is, o.signedArea w hF, f_sign, hl, Option.bind_some]
theorem MO.right (o : MO h m r) (w : RB h r sz b P) {F : Nat} (hF : 9 < F) : f_X10_right F h m (nI b) = some P.right := by
  have hl : lp_X10_right_4 F h m (nI b) F 0 0 = some P.right := by
    refine lp_all2 (lp := lp_X10_right_4 F h m (nI b)) (fun i => sumTo (fun i => b2i (P.isR i)) i) nI P.n P.right (fun i hi f => ?_) (fun f => ?_) (by have := w.le; omega)
    · simp only [lp_X10_right_4, o.is, o.fn w, o.x0 w hi, o.y0 w hi, o.x1 w hi, o.y1 w hi, o.xp w hi, o.yp w hi, Option.bind_some, w.nle hi, if_false, ← nI_succ, sumTo, Bd.isR]
      by_cases q : (P.x (P.pv i) - P.x i) * (P.x (P.nx i) - P.x i) + (P.y (P.pv i) - P.y i) * (P.y (P.nx i) - P.y i) = 0 <;> simp [q, b2i]
    · simp only [lp_X10_right_4, o.is, o.fn w, Option.bind_some, Int32.le_refl, if_true, Bd.right]
  simp only [f_X10_right, hl, Option.bind_some]
theorem MO.crossings (o : MO h m r) (w : RB h r sz b P) {F : Nat} (hF : 9 < F) {b2 : Nat} {Q : Bd} (w2 : RB h r sz b2 Q) (how : Int32) : f_X10_crossings F h m (nI b) (nI b2) how = some (P.mts Q how) := by
  have hl : lp_X10_crossings_6 F h m (nI b) (nI b2) how F 0 0 = some (P.mts Q how) := by
    refine lp_all2 (lp := lp_X10_crossings_6 F h m (nI b) (nI b2) how) (fun i => sumTo (fun i => sumTo (fun k => b2i (decide (P.mt Q i k = how))) Q.n) i) nI P.n _ (fun i hi f => ?_) (fun f => ?_) (by have := w.le; omega)
    · have h2 : ∀ v, lp_X10_crossings_19 F h m (nI b) (nI b2) how (nI i) F v 0 = some (v + sumTo (fun k => b2i (decide (P.mt Q i k = how))) Q.n) := by
        intro v
        refine (congrArg (fun z => lp_X10_crossings_19 F h m (nI b) (nI b2) how (nI i) F z 0) (Int32.add_zero v).symm).trans ?_
        refine lp_all2 (lp := lp_X10_crossings_19 F h m (nI b) (nI b2) how (nI i)) (fun k => v + sumTo (fun k => b2i (decide (P.mt Q i k = how))) k) nI Q.n _ (fun k hk f => ?_) (fun f => ?_) (by have := w2.le; omega)
        · simp only [lp_X10_crossings_19, o.fn w2, o.now, w.meetSides w2 hi hk, w2.nle hk, Option.bind_some, if_false, ← nI_succ, sumTo, ← Int32.add_assoc]
          by_cases q : P.mt Q i k = how <;> simp [q, b2i]
        · simp only [lp_X10_crossings_19, o.fn w2, Option.bind_some, Int32.le_refl, if_true]
      simp only [lp_X10_crossings_6, o.is, o.fn w, h2, Option.bind_some, w.nle hi, if_false, ← nI_succ, sumTo]
    · simp only [lp_X10_crossings_6, o.is, o.fn w, Option.bind_some, Int32.le_refl, if_true, Bd.mts]
  simp only [f_X10_crossings, hl, Option.bind_some]
theorem MO.isOn (o : MO h m r) (w : RB h r sz b P) {F : Nat} (hF : 9 < F) (px py : Int32) : f_X10_isOn F h m (nI b) px py = some (b2i (P.onB 1 px py)) := by
  have hl : lp_X10_isOn_3 F h m (nI b) px py F 0 = some (if P.onB 1 px py = true then .error 1 else .ok ()) := by
    refine lp_any (lp := lp_X10_isOn_3 F h m (nI b) px py) nI _ P.n _ _ (fun i hi f => ?_) (fun f => ?_) (by have := w.le; omega)
    · simp only [lp_X10_isOn_3, o.is, o.fn w, o.x0 w hi, o.y0 w hi, o.x1 w hi, o.y1 w hi, Option.bind_some, w.nle hi, if_false, ← nI_succ, f_isOn10, Int32.one_mul, b2i_0]
      cases g_on (P.x i) (P.y i) (P.x (P.nx i)) (P.y (P.nx i)) px py <;> rfl
    · simp only [lp_X10_isOn_3, o.is, o.fn w, Option.bind_some, Int32.le_refl, if_true]
  simp only [f_X10_isOn, hl]
  cases P.onB 1 px py <;> rfl
theorem MO.encloses (o : MO h m r) (w : RB h r sz b P) {F : Nat} (hF : 9 < F) (px py c : Int32) : f_X10_encloses F h m (nI b) px py c = some (b2i (P.inB c px py P.n)) := by
  have hl : lp_X10_encloses_6 F h m (nI b) px py c F (b2i (P.inB c px py 0)) (nI 0) = some (b2i (P.inB c px py P.n)) := by
    refine lp_all2 (lp := lp_X10_encloses_6 F h m (nI b) px py c) (fun i => b2i (P.inB c px py i)) nI P.n _ (fun i hi f => ?_) (fun f => ?_) (by have := w.le; omega)
    · have ht : (c * P.x (P.nx i) - c * P.x i) * (py - c * P.y i) - (px - c * P.x i) * (c * P.y (P.nx i) - c * P.y i) = g_turn (c * P.x i) (c * P.y i) (c * P.x (P.nx i)) (c * P.y (P.nx i)) px py := by
        unfold g_turn; rw [Int32.mul_comm (px - c * P.x i)]
      simp only [lp_X10_encloses_6, o.is, o.fn w, o.x0 w hi, o.y0 w hi, o.x1 w hi, o.y1 w hi, Option.bind_some, w.nle hi, if_false, ← nI_succ, Bd.inB, Bd.cr, ht]
      generalize g_turn (c * P.x i) (c * P.y i) (c * P.x (P.nx i)) (c * P.y (P.nx i)) px py = t
      generalize c * P.y i = ay
      generalize c * P.y (P.nx i) = by'
      generalize P.inB c px py i = z
      have e1 : ∀ u v : Int32, (u ≤ v) = ¬ (v < u) := fun u v => by rw [i_le, i_lt]; simp
      simp only [e1]
      by_cases h1 : py < ay
      · by_cases h2 : py < by'
        · simp [h1, h2]
        · by_cases h3 : ay < by'
          · by_cases h4 : 0 < t <;> cases z <;> simp [h1, h2, h3, h4, bE_e, bE_o, b2i]
          · by_cases h4 : t < 0 <;> cases z <;> simp [h1, h2, h3, h4, bE_e, bE_o, b2i]
      · by_cases h2 : py < by'
        · by_cases h3 : ay < by'
          · by_cases h4 : 0 < t <;> cases z <;> simp [h1, h2, h3, h4, bE_e, bE_o, b2i]
          · by_cases h4 : t < 0 <;> cases z <;> simp [h1, h2, h3, h4, bE_e, bE_o, b2i]
        · simp [h1, h2]
    · simp only [lp_X10_encloses_6, o.is, o.fn w, Option.bind_some, Int32.le_refl, if_true]
  have hl : lp_X10_encloses_6 F h m (nI b) px py c F 0 0 = _ := hl
  simp only [f_X10_encloses, hl, Option.bind_some]
  cases P.inB c px py P.n <;> rfl
theorem MO.isWithin (o : MO h m r) (w : RB h r sz b P) {F : Nat} (hF : 9 < F) (px py : Int32) : f_X10_isWithin F h m (nI b) px py = some (b2i (!P.onB 1 px py && P.inB 1 px py P.n)) := by
  simp only [f_X10_isWithin, o.is, o.isOn w hF, o.encloses w hF, Option.bind_some]
  cases P.onB 1 px py <;> cases P.inB 1 px py P.n <;> rfl
theorem MO.liesIn (o : MO h m r) (w : RB h r sz b P) {F : Nat} (hF : 9 < F) {b2 : Nat} {Q : Bd} (w2 : RB h r sz b2 Q) (hP : P.fit) (hQ : Q.fit) : f_X10_liesIn F h m (nI b) (nI b2) = some (b2i (decide (b ≠ b2) && P.inside Q)) := by
  have hb := w.b8
  have hb2 := w2.b8
  unfold f_X10_liesIn
  by_cases e : b = b2
  · subst e; simp [b2i]
  · have e' : ¬ nI b = nI b2 := by rw [p_eq (by omega) (by omega)]; exact e
    rw [if_neg e']
    simp only [o.now, w.meetsOther hF w2, Option.bind_some, show f_X10_x h m (nI b) 0 = some (P.x 0) from o.x0 w w.pos, show f_X10_y h m (nI b) 0 = some (P.y 0) from o.y0 w w.pos, o.isWithin w2 hF, b2i_0, Bd.inside]
    obtain ⟨u, v, h1, h2, h3, h4⟩ := hP.2 0 w.pos
    simp only [h3, h4, Bd.place_2 hQ h1 h2]
    cases P.clear Q <;> cases Q.onB 1 (nI u) (nI v) <;> cases Q.inB 1 (nI u) (nI v) Q.n <;> simp [e, b2i]
end
