/-! PURE LAYER 13: more calls that only look -/
def orTo (p : Nat → Bool) : Nat → Int32
  | 0 => 0
  | n + 1 => if p n = true then orTo p n ||| ((1 : Int32) <<< (nI n &&& 31)) else orTo p n
theorem orTo_congr {p q : Nat → Bool} {n : Nat} (h : ∀ i, i < n → p i = q i) : orTo p n = orTo q n := by
  induction n with
  | zero => rfl
  | succ n ih => simp only [orTo]; rw [ih fun i hi => h i (by omega), h n (by omega)]
def minTo (a : Int32) (f : Nat → Int32) : Nat → Int32
  | 0 => a
  | n + 1 => if f n < minTo a f n then f n else minTo a f n
def maxTo (a : Int32) (f : Nat → Int32) : Nat → Int32
  | 0 => a
  | n + 1 => if maxTo a f n < f n then f n else maxTo a f n
theorem minTo_eq {a b : Int32} {f : Nat → Int32} {n : Nat} (h0 : 0 < n) (ha : ∀ i, i < n → f i < a) (hb : ∀ i, i < n → f i < b) : minTo a f n = minTo b f n := by
  induction n with
  | zero => omega
  | succ n ih =>
    by_cases hn : n = 0
    · subst hn
      simp only [minTo, ha 0 (by omega), hb 0 (by omega), if_true]
    · simp only [minTo]
      rw [ih (by omega) (fun i hi => ha i (by omega)) (fun i hi => hb i (by omega))]
theorem maxTo_eq {a b : Int32} {f : Nat → Int32} {n : Nat} (h0 : 0 < n) (ha : ∀ i, i < n → a < f i ∨ a = f i) (hb : ∀ i, i < n → b < f i ∨ b = f i) : maxTo a f n = maxTo b f n := by
  induction n with
  | zero => omega
  | succ n ih =>
    by_cases hn : n = 0
    · subst hn
      simp only [maxTo]
      rcases ha 0 (by omega) with q | q <;> rcases hb 0 (by omega) with r | r
      · simp [q, r]
      · simp [q, r]
      · simp [q, r]
      · have e : a = b := q.trans r.symm
        subst e; rfl
    · simp only [maxTo]
      rw [ih (by omega) (fun i hi => ha i (by omega)) (fun i hi => hb i (by omega))]
theorem sumTo_split (f : Nat → Int32) (w k : Nat) : sumTo f (w * k) = sumTo (fun y => sumTo (fun x => f (w * y + x)) w) k := by
  induction k with
  | zero => rfl
  | succ k ih =>
    have e : ∀ n, sumTo f (w * k + n) = sumTo f (w * k) + sumTo (fun x => f (w * k + x)) n := by
      intro n
      induction n with
      | zero => simp [sumTo]
      | succ n ihn => rw [show w * k + (n + 1) = (w * k + n) + 1 by omega]; simp only [sumTo]; rw [ihn, Int32.add_assoc]
    rw [Nat.mul_succ, e, ih]; rfl
theorem sumTo_shrink {f : Nat → Int32} {n N : Nat} (h : n ≤ N) (h0 : ∀ i, n ≤ i → i < N → f i = 0) : sumTo f N = sumTo f n := by
  obtain ⟨k, rfl⟩ := Nat.le.dest h
  clear h
  induction k with
  | zero => rfl
  | succ k ih =>
    rw [show n + (k + 1) = (n + k) + 1 by omega]
    simp only [sumTo]
    rw [h0 (n + k) (by omega) (by omega), ih (fun i h1 h2 => h0 i h1 (by omega)), Int32.add_zero]
theorem sumTo_zero {f : Nat → Int32} {N : Nat} (h0 : ∀ i, i < N → f i = 0) : sumTo f N = 0 := sumTo_shrink (n := 0) (by omega) fun i _ h => h0 i h
section
def Im.cov (c : Im) (x y : Nat) : Bool := anyTo (fun i => (c.bd i).onB 1 (nI x) (nI y) || (c.bd i).inB 1 (nI x) (nI y) (c.bd i).n) c.m
def Im.frees (c : Im) : Int32 := sumTo (fun y => sumTo (fun x => b2i (c.d.peg (nI x) (nI y) && !c.cov x y)) c.d.w) c.d.h
def Im.vOver (c : Im) (v w : Int32) : Int32 := if (c.d.at' v && g_in w 0 1) = true then orTo (fun i => if w = 0 then (!(c.bd i).onB 1 (v - v / 10 * 10) (v / 10) && (c.bd i).inB 1 (v - v / 10 * 10) (v / 10) (c.bd i).n) else (c.bd i).onB 1 (v - v / 10 * 10) (v / 10)) c.m else -1
def Im.vWide (c : Im) (v : Int32) : Int32 := if c.isB v = true then
    let P := c.vB v
    maxTo 0 (fun i => maxTo 0 (fun k => (P.x i - P.x k) * (P.x i - P.x k) + (P.y i - P.y k) * (P.y i - P.y k)) i) P.n else -1
def Im.vRim (c : Im) (v w : Int32) : Int32 := if (c.isB v && g_in w 0 3) = true then
    let P := c.vB v
    if w = 0 then minTo 99 P.x P.n else if w = 1 then minTo 99 P.y P.n else if w = 2 then maxTo 0 P.x P.n - minTo 99 P.x P.n else maxTo 0 P.y P.n - minTo 99 P.y P.n else -1
def Im.vBandB (c : Im) (v w : Int32) : Bool := c.isB v && g_in w 0 6
def Im.vBand (c : Im) (v w : Int32) : Int32 :=
    let P := c.vB v
    if w = 0 then nI P.n else if w = 1 then g_abs P.area else if w = 2 then P.on else if w = 3 then P.within else if w = 4 then P.bent else if w = 5 then P.right else sumTo (fun o => if nI o = v then 0 else P.mts (c.bd o) 1) c.m
end
theorem i_nle (u v : Int32) : (u ≤ v) = ¬ (v < u) := by rw [i_le, i_lt]; simp
theorem Bd.fit_x {P : Bd} (h : P.fit) {i : Nat} (hi : i < P.n) : (P.x i < 1000000000 ∧ P.x i < 99) ∧ (-1000000000 < P.x i ∧ (0 < P.x i ∨ 0 = P.x i)) := by
  obtain ⟨a, b, ha, hb, h1, h2⟩ := h.2 i hi
  rw [h1]
  have : ∀ a : Nat, a < 10 → (nI a < 1000000000 ∧ nI a < 99) ∧ (-1000000000 < nI a ∧ (0 < nI a ∨ 0 = nI a)) := by decide
  exact this a ha
theorem Bd.fit_y {P : Bd} (h : P.fit) {i : Nat} (hi : i < P.n) : (P.y i < 1000000000 ∧ P.y i < 99) ∧ (-1000000000 < P.y i ∧ (0 < P.y i ∨ 0 = P.y i)) := by
  obtain ⟨a, b, ha, hb, h1, h2⟩ := h.2 i hi
  rw [h2]
  have : ∀ a : Nat, a < 10 → (nI a < 1000000000 ∧ nI a < 99) ∧ (-1000000000 < nI a ∧ (0 < nI a ∨ 0 = nI a)) := by decide
  exact this b hb
theorem g_in3 {w : Int32} (h : g_in w 0 3 = true) : w = 0 ∨ w = 1 ∨ w = 2 ∨ w = 3 := by
  unfold g_in at h
  simp only [Bool.and_eq_true, Bool.not_eq_true', decide_eq_false_iff_not] at h
  obtain ⟨a, ha, rfl⟩ := i_nn h.1
  have h2 := h.2
  rw [show (3 : Int32) = nI 3 from rfl, p_lt (by decide) ha] at h2
  have : a = 0 ∨ a = 1 ∨ a = 2 ∨ a = 3 := by omega
  rcases this with rfl | rfl | rfl | rfl
  · exact Or.inl rfl
  · exact Or.inr (Or.inl rfl)
  · exact Or.inr (Or.inr (Or.inl rfl))
  · exact Or.inr (Or.inr (Or.inr rfl))
theorem g_in1 {w : Int32} (h : g_in w 0 1 = true) : w = 0 ∨ w = 1 := by
  unfold g_in at h
  simp only [Bool.and_eq_true, Bool.not_eq_true', decide_eq_false_iff_not] at h
  obtain ⟨a, ha, rfl⟩ := i_nn h.1
  have h2 := h.2
  rw [show (1 : Int32) = nI 1 from rfl, p_lt (by decide) ha] at h2
  have : a = 0 ∨ a = 1 := by omega
  rcases this with rfl | rfl
  · exact Or.inl rfl
  · exact Or.inr rfl
section
variable {h : e_H} {b B o ba : Nat} {c : Im}
theorem CV.over (w : CV h b B o ba c) {F : Nat} (hF : 9 < F) (hf : ∀ j, j < c.m → (c.bd j).fit) (v k : Int32) : f_X1_over F h b v k = some (c.vOver v k) := by
  unfold f_X1_over Im.vOver
  have := w.m8
  simp only [w.is, w.isPlace, Option.bind_some, f_isIn]
  cases q : c.d.at' v with
  | false => rfl
  | true =>
    cases q2 : g_in k 0 1 with
    | false => rfl
    | true =>
      obtain ⟨a, rfl, h1, h2, h3, e1, e2⟩ := Hd.at_of q w.bh.w10 w.bh.h10
      have := w.bh.w10; have := w.bh.h10
      have hl : lp_X1_over_24 F h b (nI a) k F 0 0 = some (orTo (fun i => if k = 0 then (!(c.bd i).onB 1 (nI a - nI a / 10 * 10) (nI a / 10) && (c.bd i).inB 1 (nI a - nI a / 10 * 10) (nI a / 10) (c.bd i).n) else (c.bd i).onB 1 (nI a - nI a / 10 * 10) (nI a / 10)) c.m) := by
        refine lp_all2 (lp := lp_X1_over_24 F h b (nI a) k) (fun i => orTo (fun i => if k = 0 then (!(c.bd i).onB 1 (nI a - nI a / 10 * 10) (nI a / 10) && (c.bd i).inB 1 (nI a - nI a / 10 * 10) (nI a / 10) (c.bd i).n) else (c.bd i).onB 1 (nI a - nI a / 10 * 10) (nI a / 10)) i) nI c.m _ (fun i hi f => ?_) (fun f => ?_) (by omega)
        · obtain ⟨a', xs, ys, g1, g2⟩ := w.bd hi
          simp only [lp_X1_over_24, w.fB, w.fm, w.fb, w.nle hi, g1, g2.is, g2.place hF, Option.bind_some, if_false, ← nI_succ, orTo]
          have p1 := Bd.place_1 (hf i hi) (u := a % 10) (v := a / 10) (by omega) (by omega)
          have p2 := Bd.place_2 (hf i hi) (u := a % 10) (v := a / 10) (by omega) (by omega)
          rw [e1, e2]
          rcases g_in1 q2 with rfl | rfl
          · simp only [if_true, show (2 : Int32) - 0 = 2 by decide]
            rw [← p2]
            by_cases z : (c.bd i).place (2 * nI (a % 10)) (2 * nI (a / 10)) = 2 <;> simp [z]
          · simp only [show ¬ (1 : Int32) = 0 by decide, if_false, show (2 : Int32) - 1 = 1 by decide]
            rw [← p1]
            by_cases z : (c.bd i).place (2 * nI (a % 10)) (2 * nI (a / 10)) = 1 <;> simp [z]
        · simp only [lp_X1_over_24, w.fB, w.fm, Option.bind_some, Int32.le_refl, if_true]
      simp only [hl, Option.bind_some]
      rfl
theorem CV.wide (w : CV h b B o ba c) {F : Nat} (hF : 9 < F) (v : Int32) : f_X1_wide F h b v = some (c.vWide v) := by
  unfold f_X1_wide Im.vWide
  have := w.m8
  simp only [w.is, w.isBand, Option.bind_some]
  cases q : c.isB v with
  | false => rfl
  | true =>
    obtain ⟨k, rfl, hk⟩ := Im.isB_of q w.m8
    obtain ⟨a, xs, ys, h1, g⟩ := w.bd hk
    have := g.le
    simp only [w.fB, w.fb, h1, Option.bind_some, Im.vB, nI_clamp (show k < 2 ^ 31 by omega)]
    generalize c.bd k = P at g
    have hl : lp_X1_wide_25 F h a F 0 0 = some (maxTo 0 (fun i => maxTo 0 (fun k => (P.x i - P.x k) * (P.x i - P.x k) + (P.y i - P.y k) * (P.y i - P.y k)) i) P.n) := by
      refine lp_all2 (lp := lp_X1_wide_25 F h a) (fun i => maxTo 0 (fun i => maxTo 0 (fun k => (P.x i - P.x k) * (P.x i - P.x k) + (P.y i - P.y k) * (P.y i - P.y k)) i) i) nI P.n _ (fun i hi f => ?_) (fun f => ?_) (by have := g.le; omega)
      · have hl : ∀ z, lp_X1_wide_37 F h a (nI i) F z 0 = some (maxTo z (fun k => (P.x i - P.x k) * (P.x i - P.x k) + (P.y i - P.y k) * (P.y i - P.y k)) i) := by
          intro z
          refine lp_all2 (lp := lp_X1_wide_37 F h a (nI i)) (fun j => maxTo z (fun k => (P.x i - P.x k) * (P.x i - P.x k) + (P.y i - P.y k) * (P.y i - P.y k)) j) nI i _ (fun k hk f => ?_) (fun f => ?_) (by have := g.le; omega)
          · have hk' : k < P.n := by omega
            have hle : (nI i ≤ nI k) = False := by have := g.le; rw [p_le (by omega) (by omega)]; simp; omega
            simp only [lp_X1_wide_37, g.fx, g.fy, g.ax hi, g.ay hi, g.ax hk', g.ay hk', Option.bind_some, hle, if_false, ← nI_succ, maxTo]
          · simp only [lp_X1_wide_37, Int32.le_refl, if_true]
        have hm : ∀ (z : Int32) (f : Nat → Int32) (n : Nat), ¬ z < 0 → maxTo z f n = if z < maxTo 0 f n then maxTo 0 f n else z := by
          intro z f n hz
          induction n with
          | zero => simp [maxTo, hz]
          | succ n ih =>
            simp only [maxTo, ih]
            have t : ∀ x y : Int32, (x < y) = (x.toInt < y.toInt) := fun x y => by rw [i_lt]
            simp only [t] at hz ⊢
            repeat' split
            all_goals first | rfl | omega | (apply Int32.toInt_inj.mp; omega)
        have hz : ∀ (f : Nat → Int32) (n : Nat), ¬ maxTo 0 f n < 0 := by
          intro f n
          induction n with
          | zero => simp [maxTo]
          | succ n ih =>
            simp only [maxTo]
            split
            · rename_i q; rw [i_lt] at *; omega
            · exact ih
        simp only [lp_X1_wide_25, g.fn, g.nle hi, hl, Option.bind_some, if_false, ← nI_succ]
        rw [hm _ _ _ (hz _ _)]
        rfl
      · simp only [lp_X1_wide_25, g.fn, Option.bind_some, Int32.le_refl, if_true]
    simp only [hl, Option.bind_some]
    rfl
theorem CV.rim (w : CV h b B o ba c) {F : Nat} (hF : 9 < F) (hf : ∀ j, j < c.m → (c.bd j).fit) (hp : ∀ j, j < c.m → 0 < (c.bd j).n) (v k : Int32) : f_X1_rim F h b v k = some (c.vRim v k) := by
  unfold f_X1_rim Im.vRim
  have := w.m8
  simp only [w.is, w.isBand, Option.bind_some, f_isIn]
  cases q : c.isB v with
  | false => rfl
  | true =>
    cases q2 : g_in k 0 3 with
    | false => rfl
    | true =>
      obtain ⟨i, rfl, hi⟩ := Im.isB_of q w.m8
      obtain ⟨a, xs, ys, h1, g⟩ := w.bd hi
      have hf' := hf i hi
      have hp' := hp i hi
      simp only [w.fB, w.fb, h1, Option.bind_some, Im.vB, nI_clamp (show i < 2 ^ 31 by omega), g.fx, g.fy, g.fn]
      generalize c.bd i = P at g hf' hp'
      have := g.le
      have l1 : ∀ (z : Nat) (f : Nat → Int32), (∀ j, j < P.n → e_aI h z 0 (nI j) = some (f j)) → f_X1_least F h z (nI P.n) = some (minTo 1000000000 f P.n) := by
        intro z f hz
        have hl : lp_X1_least_6 F h z (nI P.n) F 1000000000 0 = some (minTo 1000000000 f P.n) := by
          refine lp_all2 (lp := lp_X1_least_6 F h z (nI P.n)) (fun j => minTo 1000000000 f j) nI P.n _ (fun j hj f => ?_) (fun f => ?_) (by omega)
          · simp only [lp_X1_least_6, g.nle hj, hz j hj, Option.bind_some, if_false, ← nI_succ, minTo]
          · simp only [lp_X1_least_6, Int32.le_refl, if_true]
        simp only [f_X1_least, hl, Option.bind_some]
      have l2 : ∀ (z : Nat) (f : Nat → Int32), (∀ j, j < P.n → e_aI h z 0 (nI j) = some (f j)) → f_X1_most F h z (nI P.n) = some (maxTo (-1000000000) f P.n) := by
        intro z f hz
        have hl : lp_X1_most_6 F h z (nI P.n) F (-1000000000) 0 = some (maxTo (-1000000000) f P.n) := by
          refine lp_all2 (lp := lp_X1_most_6 F h z (nI P.n)) (fun j => maxTo (-1000000000) f j) nI P.n _ (fun j hj f => ?_) (fun f => ?_) (by omega)
          · simp only [lp_X1_most_6, g.nle hj, hz j hj, Option.bind_some, if_false, ← nI_succ, maxTo]
          · simp only [lp_X1_most_6, Int32.le_refl, if_true]
        simp only [f_X1_most, hl, Option.bind_some]
      have x1 : minTo 1000000000 P.x P.n = minTo 99 P.x P.n := minTo_eq hp' (fun j hj => (Bd.fit_x hf' hj).1.1) (fun j hj => (Bd.fit_x hf' hj).1.2)
      have y1 : minTo 1000000000 P.y P.n = minTo 99 P.y P.n := minTo_eq hp' (fun j hj => (Bd.fit_y hf' hj).1.1) (fun j hj => (Bd.fit_y hf' hj).1.2)
      have x2 : maxTo (-1000000000) P.x P.n = maxTo 0 P.x P.n := maxTo_eq hp' (fun j hj => Or.inl (Bd.fit_x hf' hj).2.1) (fun j hj => (Bd.fit_x hf' hj).2.2)
      have y2 : maxTo (-1000000000) P.y P.n = maxTo 0 P.y P.n := maxTo_eq hp' (fun j hj => Or.inl (Bd.fit_y hf' hj).2.1) (fun j hj => (Bd.fit_y hf' hj).2.2)
      rcases g_in3 q2 with rfl | rfl | rfl | rfl
      · simp only [show (0 : Int32) - 0 / 2 * 2 = 0 by decide, show ¬ (2 : Int32) ≤ 0 by decide, if_true, if_false, Option.bind_some, l1 xs P.x (fun j hj => g.ax hj), x1, b2i, Bool.and_self, show ¬ (1 : Int32) = 0 by decide]
      · simp only [show ¬ (1 : Int32) - 1 / 2 * 2 = 0 by decide, show ¬ (2 : Int32) ≤ 1 by decide, if_true, if_false, Option.bind_some, l1 ys P.y (fun j hj => g.ay hj), y1, b2i, Bool.and_self, show ¬ (1 : Int32) = 0 by decide]
      · simp only [show (2 : Int32) - 2 / 2 * 2 = 0 by decide, Int32.le_refl, if_true, if_false, Option.bind_some, l1 xs P.x (fun j hj => g.ax hj), l2 xs P.x (fun j hj => g.ax hj), x1, x2, b2i, Bool.and_self, show ¬ (1 : Int32) = 0 by decide, show ¬ (2 : Int32) = 0 by decide, show ¬ (2 : Int32) = 1 by decide]
      · simp only [show ¬ (3 : Int32) - 3 / 2 * 2 = 0 by decide, show (2 : Int32) ≤ 3 by decide, if_true, if_false, Option.bind_some, l1 ys P.y (fun j hj => g.ay hj), l2 ys P.y (fun j hj => g.ay hj), y1, y2, b2i, Bool.and_self, show ¬ (1 : Int32) = 0 by decide, show ¬ (3 : Int32) = 0 by decide, show ¬ (3 : Int32) = 1 by decide, show ¬ (3 : Int32) = 2 by decide]
theorem CV.overB (w : CV h b B o ba c) {F : Nat} (hF : 9 < F) (hf : ∀ j, j < c.m → (c.bd j).fit) {x y : Nat} (hx : x < 10) (hy : y < 10) : ∃ v, f_X3_over F h B (nI x) (nI y) = some v ∧ (v = 0 ↔ c.cov x y = false) := by
  have := w.m8
  obtain ⟨k, h1, h2, h3⟩ := sumTo_small (p := fun i => (c.bd i).onB 1 (nI x) (nI y) || (c.bd i).inB 1 (nI x) (nI y) (c.bd i).n) (n := c.m)
  refine ⟨nI k, ?_, by rw [p_e0 (by omega), h3]; rfl⟩
  have hl : lp_X3_over_5 F h B (nI x) (nI y) F 0 0 = some (nI k) := by
    rw [← h2]
    refine lp_sumI (fun i v f hi => ?_) (fun v f => ?_) (by omega)
    · obtain ⟨a', xs, ys, g1, g2⟩ := w.bd hi
      have p0 := Bd.place_0 (hf i hi) hx hy
      simp only [lp_X3_over_5, w.fm, w.fb, w.nle hi, g1, g2.is, g2.place hF, Option.bind_some, if_false, ← nI_succ, sumTo]
      by_cases z : (c.bd i).place (2 * nI x) (2 * nI y) ≤ 0
      · rw [decide_eq_true z] at p0
        have : ((c.bd i).onB 1 (nI x) (nI y) || (c.bd i).inB 1 (nI x) (nI y) (c.bd i).n) = false := by
          cases hh : ((c.bd i).onB 1 (nI x) (nI y) || (c.bd i).inB 1 (nI x) (nI y) (c.bd i).n)
          · rfl
          · rw [hh] at p0; cases p0
        simp [z, this, b2i]
      · rw [decide_eq_false z] at p0
        have : ((c.bd i).onB 1 (nI x) (nI y) || (c.bd i).inB 1 (nI x) (nI y) (c.bd i).n) = true := by
          cases hh : ((c.bd i).onB 1 (nI x) (nI y) || (c.bd i).inB 1 (nI x) (nI y) (c.bd i).n)
          · rw [hh] at p0; cases p0
          · rfl
        simp [z, this, b2i]
    · simp only [lp_X3_over_5, w.fm, Option.bind_some, Int32.le_refl, if_true]
  simp only [f_X3_over, hl, Option.bind_some]
theorem CV.freeB (w : CV h b B o ba c) {F : Nat} (hF : 100 < F) (hf : ∀ j, j < c.m → (c.bd j).fit) : f_X3_free F h B = some c.frees := by
  have w10 := w.bh.w10
  have h10 := w.bh.h10
  have hl : lp_X3_free_4 F h B F 0 0 = some c.frees := by
    refine lp_all2 (lp := lp_X3_free_4 F h B) (fun y => sumTo (fun y => sumTo (fun x => b2i (c.d.peg (nI x) (nI y) && !c.cov x y)) c.d.w) y) nI c.d.h _ (fun y hy f => ?_) (fun f => ?_) (by omega)
    · have hl : ∀ v, lp_X3_free_14 F h B (nI y) F v 0 = some (v + sumTo (fun x => b2i (c.d.peg (nI x) (nI y) && !c.cov x y)) c.d.w) := by
        intro v
        refine lp_sumV v (fun x v f hx => ?_) (fun v f => ?_) (by omega)
        · obtain ⟨z, hz1, hz2⟩ := w.overB (show 9 < F by omega) hf (x := x) (y := y) (by omega) (by omega)
          have hle : (nI c.d.w ≤ nI x) = False := by rw [p_le (by omega) (by omega)]; simp; omega
          simp only [lp_X3_free_14, p_fI w.bh.k, w.bh.w, hle, w.bh.isPeg, hz1, Option.bind_some, if_false, ← nI_succ]
          cases c.d.peg (nI x) (nI y) with
          | false => simp [b2i, bE_o]
          | true =>
            cases q : c.cov x y with
            | false => simp [b2i, bE_o, bE_e, hz2.mpr q]
            | true =>
              have : ¬ z = 0 := fun e => by rw [hz2.mp e] at q; cases q
              simp [b2i, bE_o, bE_e, this]
        · simp only [lp_X3_free_14, p_fI w.bh.k, w.bh.w, Option.bind_some, Int32.le_refl, if_true]
      have hle : (nI c.d.h ≤ nI y) = False := by rw [p_le (by omega) (by omega)]; simp; omega
      simp only [lp_X3_free_4, p_fI w.bh.k, w.bh.hh, hle, hl, Option.bind_some, if_false, ← nI_succ, sumTo]
    · simp only [lp_X3_free_4, p_fI w.bh.k, w.bh.hh, Option.bind_some, Int32.le_refl, if_true, Im.frees]
  simp only [f_X3_free, hl, Option.bind_some]
theorem CV.free (w : CV h b B o ba c) {F : Nat} (hF : 100 < F) (hf : ∀ j, j < c.m → (c.bd j).fit) : f_X1_free F h b = some c.frees := by
  simp only [f_X1_free, w.fB, w.isd, w.freeB hF hf, Option.bind_some]
theorem CV.band (w : CV h b B o ba c) {F : Nat} (hF : 9 < F) (hf : ∀ j, j < c.m → (c.bd j).fit) {v k : Int32} (hv : c.vBandB v k = true) : f_X1_band F h b v k = some (.ok (c.vBand v k), h) := by
  unfold Im.vBandB at hv
  rw [Bool.and_eq_true] at hv
  obtain ⟨i, rfl, hi⟩ := Im.isB_of hv.1 w.m8
  obtain ⟨a, xs, ys, h1, g⟩ := w.bd hi
  have := w.m8
  have hf' := hf i hi
  have hl : lp_X1_band_115 F h b (nI i) a F 0 0 = some (sumTo (fun o => if nI o = nI i then 0 else (c.bd i).mts (c.bd o) 1) c.m) := by
    refine lp_sumI (fun o v f ho => ?_) (fun v f => ?_) (by omega)
    · obtain ⟨a2, xs2, ys2, g1, g2⟩ := w.bd ho
      simp only [lp_X1_band_115, w.fB, w.fm, w.fb, w.nle ho, g1, g.is, g.meetings hF g2, Option.bind_some, if_false, ← nI_succ, sumTo]
      by_cases z : nI o = nI i <;> simp [z]
    · simp only [lp_X1_band_115, w.fB, w.fm, Option.bind_some, Int32.le_refl, if_true]
  simp only [f_X1_band, w.is, w.isBand, hv.1, hv.2, f_isIn, b2i, if_true, show ¬ (1 : Int32) = 0 by decide, if_false, bE_e, Option.bind_some, f_X1_must, b3_o, w.fB, w.fb, h1, g.fn, g.is, g.area hF, g.on hF hf', g.within hF hf', g.bent hF, g.right hF, hl, Im.vBand, Im.vB, nI_clamp (show i < 2 ^ 31 by omega), i_zsub]
  change (_ : Option (Except (Nat × Nat) Int32 × e_H)) = _
  by_cases k0 : k = 0
  · simp [k0]
  by_cases k1 : k = 1
  · simp [k1, g_abs]
  by_cases k2 : k = 2
  · simp [k2]
  by_cases k3 : k = 3
  · simp [k3]
  by_cases k4 : k = 4
  · simp [k4]
  by_cases k5 : k = 5
  · simp [k5]
  simp [k0, k1, k2, k3, k4, k5]
theorem CV.bandX (w : CV h b B o ba c) {F : Nat} {v k : Int32} (hv : c.vBandB v k = false) : f_X1_band F h b v k = some (.error (1, e_n h), e_bump h 6) := by
  unfold Im.vBandB at hv
  simp only [f_X1_band, w.is, w.isBand, f_isIn, Option.bind_some, f_X1_must]
  cases q1 : c.isB v with
  | false => rfl
  | true =>
    rw [q1, Bool.true_and] at hv
    rw [hv]; rfl
end
section
variable {h : e_H} {m : Nat} {c : Im}
theorem MV.over (w0 : MV h m c) {F : Nat} (hF : 9 < F) (v k : Int32) : f_X10_over F h m v k = some (c.vOver v k, e_sI h m 0 0) := by
  have w := w0.thr 0
  have := w.m8
  unfold f_X10_over Im.vOver
  simp only [w0.gI, w.o.is, w.isAt, Option.bind_some, f_isIn10]
  cases q : c.d.at' v with
  | false => rfl
  | true =>
    cases q2 : g_in k 0 1 with
    | false => rfl
    | true =>
      have hl : lp_X10_over_29 F (e_sI h m 0 0) m v k F 0 0 = some (orTo (fun i => if k = 0 then (!(c.bd i).onB 1 (v - v / 10 * 10) (v / 10) && (c.bd i).inB 1 (v - v / 10 * 10) (v / 10) (c.bd i).n) else (c.bd i).onB 1 (v - v / 10 * 10) (v / 10)) c.m) := by
        refine lp_all2 (lp := lp_X10_over_29 F (e_sI h m 0 0) m v k) (fun i => orTo (fun i => if k = 0 then (!(c.bd i).onB 1 (v - v / 10 * 10) (v / 10) && (c.bd i).inB 1 (v - v / 10 * 10) (v / 10) (c.bd i).n) else (c.bd i).onB 1 (v - v / 10 * 10) (v / 10)) i) nI c.m _ (fun i hi f => ?_) (fun f => ?_) (by omega)
        · have g := w.bs i hi
          simp only [lp_X10_over_29, w.bands, w.nle hi, w.o.isWithin g hF, w.o.isOn g hF, Option.bind_some, if_false, ← nI_succ, orTo]
          rcases g_in1 q2 with rfl | rfl
          · by_cases z1 : (c.bd i).onB 1 (v - v / 10 * 10) (v / 10) = true <;> by_cases z2 : (c.bd i).inB 1 (v - v / 10 * 10) (v / 10) (c.bd i).n = true <;> simp [z1, z2, b2i, bE_o, bE_e]
          · by_cases z1 : (c.bd i).onB 1 (v - v / 10 * 10) (v / 10) = true <;> simp [z1, b2i, bE_o, bE_e]
        · simp only [lp_X10_over_29, w.bands, Option.bind_some, Int32.le_refl, if_true]
      simp only [hl, Option.bind_some]
      rfl
theorem MV.wide (w0 : MV h m c) {F : Nat} (hF : 9 < F) (v : Int32) : f_X10_wide F h m v = some (c.vWide v, e_sI h m 0 0) := by
  have w := w0.thr 0
  have := w.m8
  unfold f_X10_wide Im.vWide
  simp only [w0.gI, w.o.is, w.isBand, Option.bind_some]
  cases q : c.isB v with
  | false => rfl
  | true =>
    obtain ⟨k, rfl, hk⟩ := Im.isB_of q w.m8
    have g := w.bs k hk
    simp only [Im.vB, nI_clamp (show k < 2 ^ 31 by omega)]
    generalize c.bd k = P at g
    have := g.le
    have hl : lp_X10_wide_19 F (e_sI h m 0 0) m (nI k) F 0 0 = some (maxTo 0 (fun i => maxTo 0 (fun k => (P.x i - P.x k) * (P.x i - P.x k) + (P.y i - P.y k) * (P.y i - P.y k)) i) P.n) := by
      refine lp_all2 (lp := lp_X10_wide_19 F (e_sI h m 0 0) m (nI k)) (fun i => maxTo 0 (fun i => maxTo 0 (fun k => (P.x i - P.x k) * (P.x i - P.x k) + (P.y i - P.y k) * (P.y i - P.y k)) i) i) nI P.n _ (fun i hi f => ?_) (fun f => ?_) (by have := g.le; omega)
      · have hl : ∀ z, lp_X10_wide_31 F (e_sI h m 0 0) m (nI k) (nI i) F z 0 = some (maxTo z (fun k => (P.x i - P.x k) * (P.x i - P.x k) + (P.y i - P.y k) * (P.y i - P.y k)) i) := by
          intro z
          refine lp_all2 (lp := lp_X10_wide_31 F (e_sI h m 0 0) m (nI k) (nI i)) (fun j => maxTo z (fun k => (P.x i - P.x k) * (P.x i - P.x k) + (P.y i - P.y k) * (P.y i - P.y k)) j) nI i _ (fun j hj f => ?_) (fun f => ?_) (by have := g.le; omega)
          · have hk' : j < P.n := by omega
            have hle : (nI i ≤ nI j) = False := by rw [p_le (by omega) (by omega)]; simp; omega
            simp only [lp_X10_wide_31, w.o.x0 g hi, w.o.y0 g hi, w.o.x0 g hk', w.o.y0 g hk', Option.bind_some, hle, if_false, ← nI_succ, maxTo, i_nle]
            split <;> simp_all
          · simp only [lp_X10_wide_31, Int32.le_refl, if_true]
        have hm : ∀ (z : Int32) (f : Nat → Int32) (n : Nat), ¬ z < 0 → maxTo z f n = if z < maxTo 0 f n then maxTo 0 f n else z := by
          intro z f n hz
          induction n with
          | zero => simp [maxTo, hz]
          | succ n ih =>
            simp only [maxTo, ih]
            have t : ∀ x y : Int32, (x < y) = (x.toInt < y.toInt) := fun x y => by rw [i_lt]
            simp only [t] at hz ⊢
            repeat' split
            all_goals first | rfl | omega | (apply Int32.toInt_inj.mp; omega)
        have hz : ∀ (f : Nat → Int32) (n : Nat), ¬ maxTo 0 f n < 0 := by
          intro f n
          induction n with
          | zero => simp [maxTo]
          | succ n ih =>
            simp only [maxTo]
            split
            · rename_i q; rw [i_lt] at *; omega
            · exact ih
        simp only [lp_X10_wide_19, w.o.fn g, g.nle hi, hl, Option.bind_some, if_false, ← nI_succ]
        rw [hm _ _ _ (hz _ _)]
        rfl
      · simp only [lp_X10_wide_19, w.o.fn g, Option.bind_some, Int32.le_refl, if_true]
    simp only [hl, Option.bind_some]
    rfl
theorem MV.rim (w0 : MV h m c) {F : Nat} (hF : 9 < F) (v k : Int32) : f_X10_rim F h m v k = some (c.vRim v k, e_sI h m 0 0) := by
  have w := w0.thr 0
  have := w.m8
  unfold f_X10_rim Im.vRim
  simp only [w0.gI, w.o.is, w.isBand, Option.bind_some, f_isIn10]
  cases q : c.isB v with
  | false => rfl
  | true =>
    cases q2 : g_in k 0 3 with
    | false => rfl
    | true =>
      obtain ⟨i, rfl, hi⟩ := Im.isB_of q w.m8
      have g := w.bs i hi
      simp only [Im.vB, nI_clamp (show i < 2 ^ 31 by omega)]
      generalize c.bd i = P at g
      have := g.le
      have hl : lp_X10_rim_40 F (e_sI h m 0 0) m (nI i) F 99 99 0 0 0 = some (minTo 99 P.x P.n, minTo 99 P.y P.n, maxTo 0 P.x P.n, maxTo 0 P.y P.n) := by
        refine lp_all (lp := fun f (z : Int32 × Int32 × Int32 × Int32 × Int32) => lp_X10_rim_40 F (e_sI h m 0 0) m (nI i) f z.1 z.2.1 z.2.2.1 z.2.2.2.1 z.2.2.2.2) (fun j => (minTo 99 P.x j, minTo 99 P.y j, maxTo 0 P.x j, maxTo 0 P.y j, nI j)) P.n _ (fun j hj f => ?_) (fun f => ?_) (by omega)
        · have hlt : nI j < nI P.n := by rw [p_lt (by omega) (by omega)]; exact hj
          simp only [lp_X10_rim_40, w.o.fn g, w.o.x0 g hj, w.o.y0 g hj, Option.bind_some, hlt, not_true_eq_false, if_false, ← nI_succ, minTo, maxTo, i_nle]
          by_cases z1 : P.x j < minTo 99 P.x j <;> by_cases z2 : P.y j < minTo 99 P.y j <;> by_cases z3 : maxTo 0 P.x j < P.x j <;> by_cases z4 : maxTo 0 P.y j < P.y j <;> simp [z1, z2, z3, z4]
        · simp only [lp_X10_rim_40, w.o.fn g, Option.bind_some, Int32.le_refl, if_true]
      simp only [hl, Option.bind_some, e_u4]
      rcases g_in3 q2 with rfl | rfl | rfl | rfl <;> rfl
theorem MV.freeMany (w0 : MV h m c) {F : Nat} (hF : 100 < F) : f_X10_freeMany F h m = some c.frees := by
  have w := w0
  have w10 := w.rh.w10
  have h10 := w.rh.h10
  have hm := w.m8
  have hfree : ∀ x y : Nat, f_X10_isFree F h m (nI x) (nI y) = some (b2i (!c.cov x y)) := by
    intro x y
    have hl : lp_X10_isFree_2 F h m (nI x) (nI y) F 0 = some (if anyTo (fun i => (c.bd i).onB 1 (nI x) (nI y) || (c.bd i).inB 1 (nI x) (nI y) (c.bd i).n) c.m = true then .error 0 else .ok ()) := by
      refine lp_any (lp := lp_X10_isFree_2 F h m (nI x) (nI y)) nI _ c.m _ _ (fun i hi f => ?_) (fun f => ?_) (by omega)
      · have g := w.bs i hi
        simp only [lp_X10_isFree_2, w.o.is, w.bands, w.nle hi, w.o.isOn g (show 9 < F by omega), w.o.encloses g (show 9 < F by omega), Option.bind_some, if_false, ← nI_succ]
        cases (c.bd i).onB 1 (nI x) (nI y) <;> cases (c.bd i).inB 1 (nI x) (nI y) (c.bd i).n <;> simp [b2i]
      · simp only [lp_X10_isFree_2, w.o.is, w.bands, Option.bind_some, Int32.le_refl, if_true]
    simp only [f_X10_isFree, hl, Im.cov]
    cases anyTo (fun i => (c.bd i).onB 1 (nI x) (nI y) || (c.bd i).inB 1 (nI x) (nI y) (c.bd i).n) c.m <;> rfl
  have hl : lp_X10_freeMany_4 F h m F 0 0 = some (sumTo (fun a => b2i (c.d.peg (nI (a % 10)) (nI (a / 10)) && !c.cov (a % 10) (a / 10))) 100) := by
    refine lp_sumI (fun a v f ha => ?_) (fun v f => ?_) (by omega)
    · have hle : ((100 : Int32) ≤ nI a) = False := by rw [show (100 : Int32) = nI 100 from rfl, p_le (by omega) (by omega)]; simp; omega
      have e3 := i_div10 (show a < 2 ^ 31 by omega)
      have e4 := i_mod10 (show a < 2 ^ 31 by omega)
      rw [e3] at e4
      simp only [lp_X10_freeMany_4, hle, w.o.now, w.rh.isPeg, e3, e4, hfree, Option.bind_some, if_false, ← nI_succ]
      cases c.d.peg (nI (a % 10)) (nI (a / 10)) <;> cases c.cov (a % 10) (a / 10) <;> simp [b2i]
    · simp only [lp_X10_freeMany_4, show (100 : Int32) ≤ nI 100 from Int32.le_refl _, if_true]
  simp only [f_X10_freeMany, hl, Option.bind_some, Im.frees]
  congr 1
  have hpeg : ∀ x y : Nat, x < 10 → y < 10 → (c.d.w ≤ x ∨ c.d.h ≤ y) → c.d.peg (nI x) (nI y) = false := by
    intro x y hx hy hq
    unfold Hd.peg Hd.plc
    rw [Bool.and_eq_false_iff, Bool.and_eq_false_iff, Bool.and_eq_false_iff, Bool.and_eq_false_iff]
    left
    rcases hq with q | q
    · left; right; rw [decide_eq_false_iff_not, p_lt (by omega) (by omega)]; omega
    · right; right; rw [decide_eq_false_iff_not, p_lt (by omega) (by omega)]; omega
  rw [show (100 : Nat) = 10 * 10 from rfl, sumTo_split]
  have e1 : ∀ y, y < 10 → sumTo (fun x => b2i (c.d.peg (nI ((10 * y + x) % 10)) (nI ((10 * y + x) / 10)) && !c.cov ((10 * y + x) % 10) ((10 * y + x) / 10))) 10 = sumTo (fun x => b2i (c.d.peg (nI x) (nI y) && !c.cov x y)) c.d.w := by
    intro y hy
    rw [sumTo_shrink (n := c.d.w) (by omega) (fun x h1 h2 => ?_)]
    · refine sumTo_congr fun x hx => ?_
      rw [show (10 * y + x) % 10 = x by omega, show (10 * y + x) / 10 = y by omega]
    · rw [show (10 * y + x) % 10 = x by omega, show (10 * y + x) / 10 = y by omega, hpeg x y (by omega) hy (Or.inl h1)]; rfl
  rw [sumTo_congr e1, sumTo_shrink (n := c.d.h) (by omega) (fun y h1 h2 => ?_)]
  refine sumTo_zero fun x hx => ?_
  rw [hpeg x y (by omega) (by omega) (Or.inr h1)]; rfl
theorem MV.free (w0 : MV h m c) {F : Nat} (hF : 100 < F) : f_X10_free F h m = some (c.frees, e_sI h m 0 0) := by
  have w := w0.thr 0
  simp only [f_X10_free, w0.gI, w.o.is, w.freeMany hF, Option.bind_some]
theorem MV.band (w0 : MV h m c) {F : Nat} (hF : 20 ≤ F) (hf : ∀ j, j < c.m → (c.bd j).fit) (hb : ∀ j, j < c.m → (c.bd j).bentM = (c.bd j).bent) {v k : Int32} (hv : c.vBandB v k = true) : f_X10_band F h m v k = some (c.vBand v k, e_sI h m 0 0) := by
  have w := w0.thr 0
  have := w.m8
  unfold Im.vBandB at hv
  rw [Bool.and_eq_true] at hv
  obtain ⟨i, rfl, hi⟩ := Im.isB_of hv.1 w.m8
  have g := w.bs i hi
  have hf' := hf i hi
  have hb' := hb i hi
  have h9 : 9 < F := by omega
  have hl : lp_X10_band_109 F (e_sI h m 0 0) m (nI i) F 0 0 = some (sumTo (fun o => if nI o = nI i then 0 else (c.bd i).mts (c.bd o) 1) c.m) := by
    refine lp_sumI (fun o v f ho => ?_) (fun v f => ?_) (by omega)
    · simp only [lp_X10_band_109, w.o.is, w.bands, w.nle ho, w.o.crossings g h9 (w.bs o ho), Option.bind_some, if_false, ← nI_succ]
      by_cases z : nI o = nI i <;> simp [z]
    · simp only [lp_X10_band_109, w.o.is, w.bands, Option.bind_some, Int32.le_refl, if_true]
  simp only [f_X10_band, w0.o.is, w0.isBand, hv.1, hv.2, f_isIn10, b2i, if_true, show ¬ (1 : Int32) = 0 by decide, if_false, Option.bind_some, w0.gI, w.o.is, w.o.fn g, w.o.area g h9, w.o.on g hF hf', w.o.within g hF hf', w.o.bent g h9, hb', w.o.right g h9, hl, Im.vBand, Im.vB, nI_clamp (show i < 2 ^ 31 by omega)]
  by_cases k0 : k = 0
  · simp [k0, bE_e]
  by_cases k1 : k = 1
  · simp [k1, bE_e]
  by_cases k2 : k = 2
  · simp [k2, bE_e]
  by_cases k3 : k = 3
  · simp [k3, bE_e]
  by_cases k4 : k = 4
  · simp [k4, bE_e]
  by_cases k5 : k = 5
  · simp [k5, bE_e]
  simp [k0, k1, k2, k3, k4, k5, bE_e]
theorem MV.bandX (w0 : MV h m c) {F : Nat} {v k : Int32} (hv : c.vBandB v k = false) : f_X10_band F h m v k = some (0, e_sI h m 0 1) := by
  unfold Im.vBandB at hv
  simp only [f_X10_band, w0.o.is, w0.isBand, f_isIn10, Option.bind_some]
  cases q1 : c.isB v with
  | false => simp [b2i, bE_o, f_X10_refuse, w0.gI, b2_s, w0.o.is]
  | true =>
    rw [q1, Bool.true_and] at hv
    rw [hv]; simp [b2i, bE_o, f_X10_refuse, w0.gI, b2_s, w0.o.is]
end
