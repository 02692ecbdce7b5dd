/-! PURE LAYER 8: a board's head; why a band is wrong -/
theorem i_nn {x : Int32} (h : ¬ x < 0) : ∃ a : Nat, a < 2 ^ 31 ∧ x = nI a := by
  have h0 : 0 ≤ x.toInt := by rw [i_lt] at h; have : (0 : Int32).toInt = 0 := rfl; omega
  have h1 : x.toInt < 2 ^ 31 := Int32.toInt_lt x
  refine ⟨x.toInt.toNat, by omega, ?_⟩
  rw [i_eq, nI_toInt (by omega)]; omega
theorem g_in_pred {x : Int32} {w : Nat} (hw : w ≤ 10000) : g_in x 0 (nI w - 1) = (!decide (x < 0) && decide (x < nI w)) := by
  unfold g_in
  by_cases h : x < 0
  · simp [h]
  · obtain ⟨a, ha, rfl⟩ := i_nn h
    simp only [h, decide_false, Bool.not_false, Bool.true_and]
    by_cases hw0 : w = 0
    · subst hw0
      have e1 : nI 0 - 1 < nI a := by
        rw [i_lt, nI_toInt ha, show (nI 0 - 1).toInt = -1 from rfl]; omega
      have e2 : ¬ nI a < nI 0 := by rw [p_lt ha (by omega)]; omega
      simp [e1, e2]
    · rw [show (1 : Int32) = nI 1 from rfl, p_sub (by omega)]
      rw [Bool.eq_iff_iff, Bool.not_eq_true', decide_eq_false_iff_not, decide_eq_true_iff, p_lt (by omega) ha, p_lt ha (by omega)]
      omega
def Hd : Type := (Nat) × (Nat) × (Nat → Bool) × (Nat) × (Bool)
def Hd.w (z__ : Hd) : Nat := z__.1
def Hd.h (z__ : Hd) : Nat := z__.2.1
def Hd.out (z__ : Hd) : Nat → Bool := z__.2.2.1
def Hd.outs (z__ : Hd) : Nat := z__.2.2.2.1
def Hd.bell (z__ : Hd) : Bool := z__.2.2.2.2
def Hd.mk (w_ : Nat) (h_ : Nat) (out_ : Nat → Bool) (outs_ : Nat) (bell_ : Bool) : Hd := (w_, h_, out_, outs_, bell_)
theorem Hd.w_mk (w_ : Nat) (h_ : Nat) (out_ : Nat → Bool) (outs_ : Nat) (bell_ : Bool) : (Hd.mk w_ h_ out_ outs_ bell_).w = w_ := rfl
theorem Hd.h_mk (w_ : Nat) (h_ : Nat) (out_ : Nat → Bool) (outs_ : Nat) (bell_ : Bool) : (Hd.mk w_ h_ out_ outs_ bell_).h = h_ := rfl
theorem Hd.out_mk (w_ : Nat) (h_ : Nat) (out_ : Nat → Bool) (outs_ : Nat) (bell_ : Bool) : (Hd.mk w_ h_ out_ outs_ bell_).out = out_ := rfl
theorem Hd.outs_mk (w_ : Nat) (h_ : Nat) (out_ : Nat → Bool) (outs_ : Nat) (bell_ : Bool) : (Hd.mk w_ h_ out_ outs_ bell_).outs = outs_ := rfl
theorem Hd.bell_mk (w_ : Nat) (h_ : Nat) (out_ : Nat → Bool) (outs_ : Nat) (bell_ : Bool) : (Hd.mk w_ h_ out_ outs_ bell_).bell = bell_ := rfl
section
def Hd.plc (d : Hd) (x y : Int32) : Bool := (!decide (x < 0) && decide (x < nI d.w)) && (!decide (y < 0) && decide (y < nI d.h))
def Hd.peg (d : Hd) (x y : Int32) : Bool := d.plc x y && !d.out (10 * y.toNatClampNeg + x.toNatClampNeg)
theorem Hd.plc_of {d : Hd} {x y : Int32} (h : d.plc x y = true) : ∃ a b : Nat, x = nI a ∧ y = nI b ∧ a < 2 ^ 31 ∧ b < 2 ^ 31 ∧ ¬ (nI d.w ≤ nI a) ∧ ¬ (nI d.h ≤ nI b) := by
  unfold Hd.plc at h
  simp only [Bool.and_eq_true, Bool.not_eq_true', decide_eq_false_iff_not, decide_eq_true_iff] at h
  obtain ⟨⟨h1, h2⟩, h3, h4⟩ := h
  obtain ⟨a, ha, rfl⟩ := i_nn h1
  obtain ⟨b, hb, rfl⟩ := i_nn h3
  refine ⟨a, b, rfl, rfl, ha, hb, ?_, ?_⟩
  · rw [i_not_le]; exact h2
  · rw [i_not_le]; exact h4
def Hd.wr1 (d : Hd) (P : Bd) : Bool := anyTo (fun i => !d.peg (P.x i) (P.y i)) P.n
def Hd.wr5 (d : Hd) (m : Nat) (bd : Nat → Bd) (but : Nat) (P : Bd) : Bool := !d.bell && anyTo (fun o => decide (o ≠ but) && !P.clear (bd o)) m
def Hd.wrong (d : Hd) (m : Nat) (bd : Nat → Bd) (but : Nat) (P : Bd) : Int32 :=
  if d.wr1 P = true then 1 else if P.w2 = true then 2 else if P.w3 = true then 3 else if P.w4 = true then 4 else if d.wr5 m bd but P = true then 5 else 0
end
/-- the head in a row -/
def RH (h : e_H) (r sz : Nat) (d : Hd) : Prop :=
  (e_k h r = some (.inr (0, sz))) ∧
  (258 ≤ sz) ∧
  (sz ≤ 1000) ∧
  (d.w ≤ 10) ∧
  (d.h ≤ 10) ∧
  (e_I h r 0 = nI d.w) ∧
  (e_I h r 1 = nI d.h) ∧
  (e_I h r 2 = b2i d.bell) ∧
  (e_I h r 3 = nI d.outs) ∧
  (∀ i, i < 100 → e_I h r (5 + i) = b2i (d.out i))
theorem RH.k {h : e_H} {r sz : Nat} {d : Hd} (w__ : RH h r sz d) : e_k h r = some (.inr (0, sz)) := w__.1
theorem RH.s1 {h : e_H} {r sz : Nat} {d : Hd} (w__ : RH h r sz d) : 258 ≤ sz := w__.2.1
theorem RH.s2 {h : e_H} {r sz : Nat} {d : Hd} (w__ : RH h r sz d) : sz ≤ 1000 := w__.2.2.1
theorem RH.w10 {h : e_H} {r sz : Nat} {d : Hd} (w__ : RH h r sz d) : d.w ≤ 10 := w__.2.2.2.1
theorem RH.h10 {h : e_H} {r sz : Nat} {d : Hd} (w__ : RH h r sz d) : d.h ≤ 10 := w__.2.2.2.2.1
theorem RH.w {h : e_H} {r sz : Nat} {d : Hd} (w__ : RH h r sz d) : e_I h r 0 = nI d.w := w__.2.2.2.2.2.1
theorem RH.hh {h : e_H} {r sz : Nat} {d : Hd} (w__ : RH h r sz d) : e_I h r 1 = nI d.h := w__.2.2.2.2.2.2.1
theorem RH.bell {h : e_H} {r sz : Nat} {d : Hd} (w__ : RH h r sz d) : e_I h r 2 = b2i d.bell := w__.2.2.2.2.2.2.2.1
theorem RH.outs {h : e_H} {r sz : Nat} {d : Hd} (w__ : RH h r sz d) : e_I h r 3 = nI d.outs := w__.2.2.2.2.2.2.2.2.1
theorem RH.out {h : e_H} {r sz : Nat} {d : Hd} (w__ : RH h r sz d) : ∀ i, i < 100 → e_I h r (5 + i) = b2i (d.out i) := w__.2.2.2.2.2.2.2.2.2
section
variable {h : e_H} {r sz : Nat} {d : Hd}
theorem RH.rd (w' : RH h r sz d) {j : Nat} (hj : j < 258) : e_aI h r 0 (nI j) = some (e_I h r j) := p_aI w'.k (by have := w'.s1; omega) (by have := w'.s2; omega)
theorem RH.isPlace (w' : RH h r sz d) (x y : Int32) : f_X10_isPlace h r x y = some (b2i (d.plc x y)) := by
  unfold f_X10_isPlace Hd.plc
  rw [show (0 : Int32) = nI 0 from rfl]
  by_cases h1 : x < nI 0
  · simp [h1, b2i, nI_zero]
  · by_cases h2 : y < nI 0
    · simp [h1, h2, b2i, nI_zero]
    · have e1 : e_aI h r 0 (nI 0) = some (nI d.w) := by rw [w'.rd (by omega), w'.w]
      have e2 : e_aI h r 0 1 = some (nI d.h) := by rw [show (1 : Int32) = nI 1 from rfl, w'.rd (by omega), w'.hh]
      simp only [h1, h2, if_false, e1, e2, Option.bind_some]
      by_cases h3 : nI d.w ≤ x
      · have : ¬ x < nI d.w := by rw [i_not_lt]; exact h3
        simp [h3, this, b2i, nI_zero]
      · have h3' : x < nI d.w := by rw [i_not_le] at h3; exact h3
        by_cases h4 : nI d.h ≤ y
        · have : ¬ y < nI d.h := by rw [i_not_lt]; exact h4
          simp [h3, h3', h4, this, b2i, nI_zero]
        · have h4' : y < nI d.h := by rw [i_not_le] at h4; exact h4
          simp [h3, h3', h4, h4', b2i]
theorem RH.isPeg (w' : RH h r sz d) (x y : Int32) : f_X10_isPeg h r x y = some (b2i (d.peg x y)) := by
  unfold f_X10_isPeg Hd.peg
  rw [w'.isPlace]
  cases hp : d.plc x y with
  | false => rfl
  | true =>
    obtain ⟨a, b, rfl, rfl, ha, hb, h1, h2⟩ := Hd.plc_of hp
    have := w'.w10; have := w'.h10
    rw [p_le (by omega) ha] at h1
    rw [p_le (by omega) hb] at h2
    have e1 : (5 : Int32) + 10 * nI b + nI a = nI (5 + (10 * b + a)) := by
      rw [show (5 : Int32) = nI 5 from rfl, show (10 : Int32) = nI 10 from rfl, p_mul, p_add, p_add]; congr 1; omega
    have e2 : e_aI h r 0 (nI (5 + (10 * b + a))) = some (b2i (d.out (10 * b + a))) := by rw [w'.rd (by omega), w'.out _ (by omega)]
    simp only [Option.bind_some, e1, e2, nI_clamp ha, nI_clamp hb, Bool.true_and]
    cases d.out (10 * b + a) <;> rfl
end
/-- the head of the component's board at a -/
def BH (h : e_H) (a o : Nat) (d : Hd) : Prop :=
  (e_k h a = some (.inl 2)) ∧
  (e_R h a 1 = some o) ∧
  (e_k h o = some (.inr (2, 100))) ∧
  (d.w ≤ 10) ∧
  (d.h ≤ 10) ∧
  (e_I h a 2 = nI d.w) ∧
  (e_I h a 3 = nI d.h) ∧
  (e_I h a 5 = nI d.outs) ∧
  (e_I h a 6 = b2i d.bell) ∧
  (∀ i, i < 100 → e_I h o i = b2i (d.out i))
theorem BH.k {h : e_H} {a o : Nat} {d : Hd} (w__ : BH h a o d) : e_k h a = some (.inl 2) := w__.1
theorem BH.ro {h : e_H} {a o : Nat} {d : Hd} (w__ : BH h a o d) : e_R h a 1 = some o := w__.2.1
theorem BH.ko {h : e_H} {a o : Nat} {d : Hd} (w__ : BH h a o d) : e_k h o = some (.inr (2, 100)) := w__.2.2.1
theorem BH.w10 {h : e_H} {a o : Nat} {d : Hd} (w__ : BH h a o d) : d.w ≤ 10 := w__.2.2.2.1
theorem BH.h10 {h : e_H} {a o : Nat} {d : Hd} (w__ : BH h a o d) : d.h ≤ 10 := w__.2.2.2.2.1
theorem BH.w {h : e_H} {a o : Nat} {d : Hd} (w__ : BH h a o d) : e_I h a 2 = nI d.w := w__.2.2.2.2.2.1
theorem BH.hh {h : e_H} {a o : Nat} {d : Hd} (w__ : BH h a o d) : e_I h a 3 = nI d.h := w__.2.2.2.2.2.2.1
theorem BH.outs {h : e_H} {a o : Nat} {d : Hd} (w__ : BH h a o d) : e_I h a 5 = nI d.outs := w__.2.2.2.2.2.2.2.1
theorem BH.bell {h : e_H} {a o : Nat} {d : Hd} (w__ : BH h a o d) : e_I h a 6 = b2i d.bell := w__.2.2.2.2.2.2.2.2.1
theorem BH.out {h : e_H} {a o : Nat} {d : Hd} (w__ : BH h a o d) : ∀ i, i < 100 → e_I h o i = b2i (d.out i) := w__.2.2.2.2.2.2.2.2.2
section
variable {h : e_H} {a o : Nat} {d : Hd}
theorem BH.is (w' : BH h a o d) : e_is h a 2 = some () := p_is w'.k
theorem BH.isPlace (w' : BH h a o d) (x y : Int32) : f_X3_isPlace h a x y = some (b2i (d.plc x y)) := by
  have := w'.w10; have := w'.h10
  simp only [f_X3_isPlace, p_fI w'.k, w'.w, w'.hh, Option.bind_some, f_isIn, g_in_pred (show d.w ≤ 10000 by omega), g_in_pred (show d.h ≤ 10000 by omega), Hd.plc]
  cases (!decide (x < 0) && decide (x < nI d.w)) <;> cases (!decide (y < 0) && decide (y < nI d.h)) <;> rfl
theorem BH.isPeg (w' : BH h a o d) (x y : Int32) : f_X3_isPeg h a x y = some (b2i (d.peg x y)) := by
  unfold f_X3_isPeg Hd.peg
  rw [w'.isPlace]
  cases hp : d.plc x y with
  | false => simp only [w'.is, Option.bind_some]; rfl
  | true =>
    obtain ⟨a', b, rfl, rfl, ha, hb, h1, h2⟩ := Hd.plc_of hp
    have := w'.w10; have := w'.h10
    rw [p_le (by omega) ha] at h1
    rw [p_le (by omega) hb] at h2
    have e1 : (10 : Int32) * nI b + nI a' = nI (10 * b + a') := by
      rw [show (10 : Int32) = nI 10 from rfl, p_mul, p_add]
    have e2 : e_aI h o 2 (nI (10 * b + a')) = some (b2i (d.out (10 * b + a'))) := by rw [p_aI w'.ko (by omega) (by omega), w'.out _ (by omega)]
    simp only [w'.is, p_fA w'.k w'.ro, Option.bind_some, e1, e2, nI_clamp ha, nI_clamp hb, Bool.true_and]
    cases d.out (10 * b + a') <;> rfl
end
theorem g_meet_sym (a b c d e f g h : Int32) : g_meet a b c d e f g h = g_meet e f g h a b c d := by
  unfold g_meet
  rw [Bool.and_comm]
  congr 1
  generalize g_on a b c d e f = o1
  generalize g_on a b c d g h = o2
  generalize g_on e f g h a b = o3
  generalize g_on e f g h c d = o4
  revert o1 o2 o3 o4
  decide
/-- sides that meet, in the model's order -/
theorem Bd.w4_model (P : Bd) : anyTo (fun i => anyTo (fun j => (decide (0 < i) || decide (i + 2 + j < P.n - 1)) && decide (P.mt P i (i + 2 + j) ≠ 0)) (P.n - (i + 2))) P.n = P.w4 := by
  unfold Bd.w4
  rw [Bool.eq_iff_iff, anyTo_iff, anyTo_iff]
  simp only [anyTo_iff, Bool.and_eq_true, Bool.or_eq_true, decide_eq_true_iff]
  constructor
  · rintro ⟨i, hi, j, hj, h1, h2⟩
    refine ⟨i + 2 + j, by omega, i, by omega, ?_, ?_, ?_⟩
    · unfold Bd.nx; split <;> omega
    · unfold Bd.nx; split <;> omega
    · unfold Bd.mt at h2 ⊢; rw [g_meet_sym]; exact h2
  · rintro ⟨i, hi, k, hk, h1, h2, h3⟩
    unfold Bd.nx at h1 h2
    have : k + 2 ≤ i := by
      split at h2 <;> omega
    refine ⟨k, by omega, i - (k + 2), by omega, ?_, ?_⟩
    · split at h1 <;> omega
    · rw [show k + 2 + (i - (k + 2)) = i by omega]
      unfold Bd.mt at h3 ⊢; rw [g_meet_sym]; exact h3
theorem RB.wrong {h : e_H} {r sz b m : Nat} {d : Hd} {P : Bd} {bd : Nat → Bd} {F : Nat} (w : RB h r sz b P) (w' : RH h r sz d) (hF : 20 < F) (hm : m ≤ 8) (hb : ∀ o, o < m → o ≠ b → RB h r sz o (bd o)) : f_X10_wrong F h r (nI b) (nI m) = some (d.wrong m bd b P) := by
  have hn := w.le
  have hb8 := w.b8
  have l1 : lp_X10_wrong_9 F h r (nI b) (nI P.n) F 0 = some (if d.wr1 P = true then .error 1 else .ok ()) := by
    refine lp_any (lp := lp_X10_wrong_9 F h r (nI b) (nI P.n)) nI _ P.n _ _ (fun i hi f => ?_) (fun f => ?_) (by omega)
    · simp only [lp_X10_wrong_9, w.ax hi, w.ay hi, w'.isPeg, Option.bind_some, w.nle hi, if_false, ← nI_succ, b2i_0]
      cases d.peg (P.x i) (P.y i) <;> rfl
    · simp only [lp_X10_wrong_9, Int32.le_refl, if_true]
  have l2 : lp_X10_wrong_47 F h r (nI b) (nI P.n) F 0 = some (if P.w2 = true then .error 2 else .ok ()) := by
    refine lp_any (lp := lp_X10_wrong_47 F h r (nI b) (nI P.n)) nI (fun i => anyTo (fun k => decide (P.x i = P.x k) && decide (P.y i = P.y k)) i) P.n _ _ (fun i hi f => ?_) (fun f => ?_) (by omega)
    · have hl : lp_X10_wrong_56 F h r (nI b) (nI i) F 0 = some (if anyTo (fun k => decide (P.x i = P.x k) && decide (P.y i = P.y k)) i = true then .error (.error 2) else .ok ()) := by
        refine lp_any (lp := lp_X10_wrong_56 F h r (nI b) (nI i)) nI (fun k => decide (P.x i = P.x k) && decide (P.y i = P.y k)) i _ _ (fun k hk f => ?_) (fun f => ?_) (by omega)
        · have hk' : k < P.n := by omega
          have hle : (nI i ≤ nI k) = False := by rw [p_le (by omega) (by omega)]; simp; omega
          simp only [lp_X10_wrong_56, w.ax hi, w.ay hi, w.ax hk', w.ay hk', Option.bind_some, hle, if_false, ← nI_succ]
          by_cases q1 : P.x i = P.x k <;> by_cases q2 : P.y i = P.y k <;> simp [q1, q2, bE_e, bE_o]
        · simp only [lp_X10_wrong_56, Int32.le_refl, if_true]
      simp only [lp_X10_wrong_47, hl, Option.bind_some, w.nle hi, if_false, ← nI_succ]
      split <;> rfl
    · simp only [lp_X10_wrong_47, Int32.le_refl, if_true]
  have l3 : lp_X10_wrong_114 F h r (nI b) (nI P.n) F 0 = some (if P.w3 = true then .error 3 else .ok ()) := by
    refine lp_any (lp := lp_X10_wrong_114 F h r (nI b) (nI P.n)) nI (fun i => decide (P.tn i = 0)) P.n _ _ (fun i hi f => ?_) (fun f => ?_) (by omega)
    · simp only [lp_X10_wrong_114, w.turnAt hi, Option.bind_some, w.nle hi, if_false, ← nI_succ, decide_eq_true_iff, g_sg_0]
    · simp only [lp_X10_wrong_114, Int32.le_refl, if_true]
  have l4 : lp_X10_wrong_141 F h r (nI b) (nI P.n) F 0 = some (if P.w4 = true then .error 4 else .ok ()) := by
    rw [← Bd.w4_model]
    refine lp_any (lp := lp_X10_wrong_141 F h r (nI b) (nI P.n)) nI _ P.n _ _ (fun i hi f => ?_) (fun f => ?_) (by omega)
    · have hl : lp_X10_wrong_153 F h r (nI b) (nI P.n) (nI i) F (nI (i + 2)) = some (if anyTo (fun j => (decide (0 < i) || decide (i + 2 + j < P.n - 1)) && decide (P.mt P i (i + 2 + j) ≠ 0)) (P.n - (i + 2)) = true then .error (.error 4) else .ok ()) := by
        refine lp_any (lp := lp_X10_wrong_153 F h r (nI b) (nI P.n) (nI i)) (fun j => nI (i + 2 + j)) _ (P.n - (i + 2)) _ _ (fun j hj f => ?_) (fun f => ?_) (by omega)
        · have hk : i + 2 + j < P.n := by omega
          have e0 : (nI P.n - 1 ≤ nI (i + 2 + j)) = (P.n - 1 ≤ i + 2 + j) := by rw [show (1 : Int32) = nI 1 from rfl, p_sub (by omega), p_le (by omega) (by omega)]
          have e1 : (0 < nI i) = (0 < i) := by rw [nI_zero, p_lt (by omega) (by omega)]
          simp only [lp_X10_wrong_153, w.meetSides w hi hk, Option.bind_some, w.nle hk, if_false, ← nI_succ, mt_le, e0, e1]
          have e3 : decide (i + 2 + j < P.n - 1) = !decide (P.n - 1 ≤ i + 2 + j) := by
            rw [Bool.eq_iff_iff, Bool.not_eq_true', decide_eq_false_iff_not, decide_eq_true_iff]; omega
          rw [e3]
          clear e3
          by_cases q1 : 0 < i <;> by_cases q2 : P.n - 1 ≤ i + 2 + j <;> by_cases q3 : P.mt P i (i + 2 + j) = 0 <;> simp only [q1, q2, q3, bE_e, bE_o, if_true, if_false, decide_true, decide_false, Bool.not_true, Bool.not_false, Bool.or_true, Bool.or_false, Bool.true_or, Bool.false_or, Bool.and_true, Bool.and_false, ne_eq, not_true_eq_false, not_false_eq_true, Bool.false_eq_true, Option.bind_some] <;> rfl
        · have : nI P.n ≤ nI (i + 2 + (P.n - (i + 2))) := by rw [p_le (by omega) (by omega)]; omega
          simp only [lp_X10_wrong_153, this, if_true]
      have e2 : nI i + 2 = nI (i + 2) := p_add i 2
      simp only [lp_X10_wrong_141, hl, e2, Option.bind_some, w.nle hi, if_false, ← nI_succ]
      split <;> rfl
    · simp only [lp_X10_wrong_141, Int32.le_refl, if_true]
  have l5 : lp_X10_wrong_202 F h r (nI b) (nI m) F 0 = some (if d.wr5 m bd b P = true then .error 5 else .ok ()) := by
    cases hbell : d.bell with
    | true =>
      obtain ⟨F, rfl⟩ : ∃ g, F = g + 1 := ⟨F - 1, by omega⟩
      unfold lp_X10_wrong_202 Hd.wr5
      have e2 : e_aI h r 0 2 = some (b2i d.bell) := by rw [show (2 : Int32) = nI 2 from rfl, w'.rd (by omega), w'.bell]
      rw [e2, hbell]
      split <;> rfl
    | false =>
      unfold Hd.wr5
      rw [hbell]
      simp only [Bool.not_false, Bool.true_and]
      refine lp_any (lp := lp_X10_wrong_202 F h r (nI b) (nI m)) nI _ m _ _ (fun o ho f => ?_) (fun f => ?_) (by omega)
      · have e2 : e_aI h r 0 2 = some (b2i d.bell) := by rw [show (2 : Int32) = nI 2 from rfl, w'.rd (by omega), w'.bell]
        have e3 : (nI m ≤ nI o) = False := by rw [p_le (by omega) (by omega)]; simp; omega
        have e4 : (nI o = nI b) = (o = b) := by rw [p_eq (by omega) (by omega)]
        simp only [lp_X10_wrong_202, e2, e3, e4, hbell, Option.bind_some, if_false, ← nI_succ]
        by_cases q : o = b
        · simp [q, b2i, bE_o]
        · simp only [q, w.meetsOther (by omega : 9 < F) (hb o ho q), Option.bind_some, if_false]
          cases P.clear (bd o) <;> simp [q, b2i, bE_o, bE_e]
      · simp only [lp_X10_wrong_202, Int32.le_refl, if_true]
  simp only [f_X10_wrong, w.fn, Option.bind_some, l1, l2, l3, l4, l5, Hd.wrong]
  cases d.wr1 P <;> cases P.w2 <;> cases P.w3 <;> cases P.w4 <;> cases d.wr5 m bd b P <;> rfl
