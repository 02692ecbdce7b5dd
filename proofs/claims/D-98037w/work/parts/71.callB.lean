/-! PURE LAYER 32: the band that calls tell -/
/-- what comes of steps, one of them (but) made otherwise so that they close -/
def stepX (c : Cl) (but j : Nat) : Int32 := c.dx j - (if j = but then sumTo c.dx c.n else 0)
def stepY (c : Cl) (but j : Nat) : Int32 := c.dy j - (if j = but then sumTo c.dy c.n else 0)
def callB (c : Cl) (but : Nat) : Bd := Bd.mk c.n (fun k => c.x + sumTo (stepX c but) k) (fun k => c.y + sumTo (stepY c but) k) []
theorem callB_n (c : Cl) (but : Nat) : (callB c but).n = c.n := rfl
theorem callB_x (c : Cl) (but k : Nat) : (callB c but).x k = c.x + sumTo (stepX c but) k := rfl
theorem callB_y (c : Cl) (but k : Nat) : (callB c but).y k = c.y + sumTo (stepY c but) k := rfl
theorem sumTo_sub (f g : Nat → Int32) (n : Nat) : sumTo (fun i => f i - g i) n = sumTo f n - sumTo g n := by
  induction n with
  | zero => simp [sumTo]
  | succ n ih => simp only [sumTo, ih]; grind
theorem sumTo_one {v : Int32} {k n : Nat} (h : k < n) : sumTo (fun j => if j = k then v else 0) n = v := by
  induction n with
  | zero => omega
  | succ n ih =>
    simp only [sumTo]
    by_cases q : n = k
    · subst q
      rw [if_pos rfl, sumTo_zero (fun i hi => if_neg (by omega)), Int32.zero_add]
    · rw [if_neg q, ih (by omega), Int32.add_zero]
/-- mended, the steps close -/
theorem step_close (c : Cl) {but : Nat} (h : but < c.n) : sumTo (stepX c but) c.n = 0 ∧ sumTo (stepY c but) c.n = 0 := by
  constructor
  · have : stepX c but = fun j => c.dx j - (if j = but then sumTo c.dx c.n else 0) := rfl
    rw [this, sumTo_sub, sumTo_one h, Int32.sub_self]
  · have : stepY c but = fun j => c.dy j - (if j = but then sumTo c.dy c.n else 0) := rfl
    rw [this, sumTo_sub, sumTo_one h, Int32.sub_self]
theorem callB_next (c : Cl) {but : Nat} (h : but < c.n) : (callB c but).x ((callB c but).nx but) - (callB c but).x but = c.dx but - sumTo c.dx c.n ∧ (callB c but).y ((callB c but).nx but) - (callB c but).y but = c.dy but - sumTo c.dy c.n := by
  obtain ⟨e1, e2⟩ := step_close c h
  unfold Bd.nx
  rw [callB_n]
  by_cases q : but + 1 = c.n
  · rw [if_pos q]
    rw [← q] at e1 e2
    simp only [sumTo] at e1 e2
    simp only [callB_x, callB_y, sumTo]
    have s1 : stepX c but but = c.dx but - sumTo c.dx c.n := by unfold stepX; rw [if_pos rfl]
    have s2 : stepY c but but = c.dy but - sumTo c.dy c.n := by unfold stepY; rw [if_pos rfl]
    rw [s1] at e1
    rw [s2] at e2
    constructor
    · grind
    · grind
  · rw [if_neg q]
    simp only [callB_x, callB_y, sumTo]
    have s1 : stepX c but but = c.dx but - sumTo c.dx c.n := by unfold stepX; rw [if_pos rfl]
    have s2 : stepY c but but = c.dy but - sumTo c.dy c.n := by unfold stepY; rw [if_pos rfl]
    rw [s1, s2]
    constructor
    · grind
    · grind
theorem g_in9 {a b : Nat} (ha : a < 10) (hb : b < 10) : g_in (nI a - nI b) (-9) 9 = true := by
  have : ∀ a, a < 10 → ∀ b, b < 10 → g_in (nI a - nI b) (-9) 9 = true := by decide +kernel
  exact this a ha b hb
theorem peg_small {d : Hd} (hw : d.w ≤ 10) (hh : d.h ≤ 10) {x y : Int32} (h : d.peg x y = true) : ∃ a b : Nat, a < 10 ∧ b < 10 ∧ x = nI a ∧ y = nI b := by
  unfold Hd.peg at h
  rw [Bool.and_eq_true] at h
  obtain ⟨a, b, rfl, rfl, ha, hb, h1, h2⟩ := Hd.plc_of h.1
  rw [p_le (by omega) ha] at h1
  rw [p_le (by omega) hb] at h2
  exact ⟨a, b, by omega, by omega, rfl, rfl⟩
theorem wr1_false {d : Hd} {P : Bd} (h : d.wr1 P = false) {i : Nat} (hi : i < P.n) : d.peg (P.x i) (P.y i) = true := by
  unfold Hd.wr1 at h
  have := anyTo_false.mp h i hi
  simpa using this
theorem wr1_fit {d : Hd} (hw : d.w ≤ 10) (hh : d.h ≤ 10) {P : Bd} (h8 : P.n ≤ 8) (h : d.wr1 P = false) : P.fit :=
  ⟨h8, fun i hi => peg_small hw hh (wr1_false h hi)⟩
/-- a step too long is off the board -/
theorem far_step {d : Hd} (hw : d.w ≤ 10) (hh : d.h ≤ 10) (c : Cl) (h8 : c.n ≤ 8) {but : Nat} (h : but < c.n) (hf : (g_in (c.dx but - sumTo c.dx c.n) (-9) 9 && g_in (c.dy but - sumTo c.dy c.n) (-9) 9) = false) : d.wr1 (callB c but) = true := by
  cases hz : d.wr1 (callB c but) with
  | true => rfl
  | false =>
    have fit := wr1_fit hw hh (P := callB c but) h8 hz
    obtain ⟨e1, e2⟩ := callB_next c h
    obtain ⟨a, b, ha, hb, x1, y1⟩ := fit.2 but h
    obtain ⟨a', b', ha', hb', x2, y2⟩ := fit.2 _ ((callB c but).nx_lt (i := but) h)
    rw [x1, x2] at e1
    rw [y1, y2] at e2
    rw [← e1, ← e2, g_in9 ha' ha, g_in9 hb' hb] at hf
    cases hf
/-- the first of so many places at which p holds, by their count -/
def cnt (p : Nat → Bool) (n : Nat) : Int32 := sumTo (fun i => b2i (p i)) n
def pick (p : Nat → Bool) (r : Nat → Int32) (N : Nat) (k : Int32) : Int32 := (fstTo (fun i => if p i = true ∧ cnt p i = k then some (r i) else none) N).getD (if k = -1 then cnt p N else -1)
theorem pick_at {p : Nat → Bool} {r : Nat → Int32} {N i : Nat} {k : Int32} (hi : i < N) (hp : p i = true) (hk : cnt p i = k) (no : ∀ j, j < i → ¬ (p j = true ∧ cnt p j = k)) : pick p r N k = r i := by
  unfold pick
  rw [fstTo_at (e := fun i => if p i = true ∧ cnt p i = k then some (r i) else none) (v := r i) hi (if_pos ⟨hp, hk⟩) (fun j hj => if_neg (no j hj))]
  rfl
theorem pick_no {p : Nat → Bool} {r : Nat → Int32} {N : Nat} {k : Int32} (no : ∀ j, j < N → ¬ (p j = true ∧ cnt p j = k)) : pick p r N k = if k = -1 then cnt p N else -1 := by
  unfold pick
  rw [fstTo_none.mpr (fun j hj => if_neg (no j hj))]
  rfl
theorem cnt_nI (p : Nat → Bool) (n : Nat) : ∃ k, k ≤ n ∧ cnt p n = nI k := by
  obtain ⟨k, h1, h2, -⟩ := sumTo_small (p := p) (n := n)
  exact ⟨k, h1, h2⟩
theorem pick_neg {p : Nat → Bool} {r : Nat → Int32} {N : Nat} {k : Int32} (hN : N < 2 ^ 31) (hk : ¬ -1 ≤ k) : pick p r N k = -1 := by
  rw [pick_no, if_neg (fun e => hk (by rw [e]; exact Int32.le_refl _))]
  rintro j hj ⟨-, e⟩
  obtain ⟨n, h1, h2⟩ := cnt_nI p j
  rw [h2] at e
  rw [← e] at hk
  apply hk
  rw [i_le, nI_toInt (by omega)]
  show (-1 : Int) ≤ _
  omega
theorem cnt_s (p : Nat → Bool) (n : Nat) : cnt p (n + 1) = if p n = true then cnt p n + 1 else cnt p n := by
  unfold cnt
  simp only [sumTo]
  cases p n <;> simp [b2i]
/-- sound all by itself -/
def Hd.sound (d : Hd) (P : Bd) : Bool := !d.wr1 P && decide (P.why = 0)
theorem Hd.sound_w (d : Hd) (bd : Nat → Bd) (k : Nat) (P : Bd) : (d.wrong 0 bd k P = 0) = (d.sound P = true) := by
  rw [Hd.wrong_why]
  have : d.wr5 0 bd k P = false := by unfold Hd.wr5; simp [anyTo]
  rw [this]
  unfold Hd.sound
  cases d.wr1 P with
  | true => simp
  | false =>
    by_cases h : P.why = 0 <;> simp [h]
/-! the component lays it -/
section
variable {A : Nat → Nat} {b F : Nat} {S : St}
theorem CCl.sumX {h : e_H} {a xs ys F : Nat} {c : Cl} (w : CCl h a xs ys c) (hF : 9 < F) : f_X4_sum F h a xs = some (sumTo c.dx c.n) := by
  have hle := w.le
  have e3 : ∀ i, i < c.n → (nI c.n ≤ nI i) = False := fun i hi => by rw [p_le (by omega) (by omega)]; simp; omega
  have hl : lp_X4_sum_4 F h a xs F 0 0 = some (sumTo c.dx c.n) := by
    refine lp_sumI (fun i v f hi => ?_) (fun v f => ?_) (by omega)
    · simp only [lp_X4_sum_4, p_fI w.k, w.n, e3 i hi, p_aI w.kx (show i < 8 by omega) (by decide), w.dx i hi, Option.bind_some, if_false, ← nI_succ]
    · simp only [lp_X4_sum_4, p_fI w.k, w.n, Option.bind_some, Int32.le_refl, if_true]
  simp only [f_X4_sum, hl, Option.bind_some]
theorem CCl.sumY {h : e_H} {a xs ys F : Nat} {c : Cl} (w : CCl h a xs ys c) (hF : 9 < F) : f_X4_sum F h a ys = some (sumTo c.dy c.n) := by
  have hle := w.le
  have e3 : ∀ i, i < c.n → (nI c.n ≤ nI i) = False := fun i hi => by rw [p_le (by omega) (by omega)]; simp; omega
  have hl : lp_X4_sum_4 F h a ys F 0 0 = some (sumTo c.dy c.n) := by
    refine lp_sumI (fun i v f hi => ?_) (fun v f => ?_) (by omega)
    · simp only [lp_X4_sum_4, p_fI w.k, w.n, e3 i hi, p_aI w.ky (show i < 8 by omega) (by decide), w.dy i hi, Option.bind_some, if_false, ← nI_succ]
    · simp only [lp_X4_sum_4, p_fI w.k, w.n, Option.bind_some, Int32.le_refl, if_true]
  simp only [f_X4_sum, hl, Option.bind_some]
theorem layBandC {h : e_H} (w : RC A b h S) (h0 : 0 < S.c.c.n) (hF : 20 < F) {but : Int32} {k : Nat} (hk : ∀ j, j < S.c.c.n → (nI j = but ↔ j = k)) :
    Ok (f_X4_band F h (b + 7) but) fun z => z.1 = e_n h ∧ IsBd z.2 (e_n h) (e_n h + 1) (e_n h + 2) (callB S.c.c k) ∧ e_J z.2 (e_n h) 3 = e256 [] ∧ Fr (fun _ _ => False) h z.2 ∧ wfH z.2 ∧ e_n z.2 = e_n h + 3 ∧ e_u z.2 = e_u h + 22 := by
  have wf : wfH h := w.sh.wf
  have hn := w.sh.n
  have hle := w.cl.le
  unfold f_X4_band
  refine newBand wf fun h4 b4 j4 x4 wf4 n4 u4 => ?_
  have w4 := w.fr x4 wf4 fun a j z => z.elim
  refine Ok.eq (v := S.c.c.x) (by rw [p_fI w4.cl.k, w4.cl.x h0]) (Ok.eq (v := S.c.c.y) (by rw [p_fI w4.cl.k, w4.cl.y h0]) (Ok.bind (R := fun h' => IsBd h' (e_n h) (e_n h + 1) (e_n h + 2) ((callB S.c.c k).upTo S.c.c.n) ∧ e_J h' (e_n h) 3 = 0 ∧ Fr (fun _ _ => False) h h' ∧ wfH h' ∧ e_n h' = e_n h + 3 ∧ e_u h' = e_u h + 22) ?_ fun h' ⟨r1, r2, r3, r4, r5, r6⟩ => Ok.ret ⟨rfl, r1.same rfl (fun _ _ => rfl) (fun _ _ => rfl), r2, r3, r4, r5, r6⟩))
  refine Ok.loopC4 (lp := lp_X4_band_22 F (b + 7) but (e_n h)) (fun i px py x h' => px = (callB S.c.c k).x i ∧ py = (callB S.c.c k).y i ∧ x = nI i ∧ IsBd h' (e_n h) (e_n h + 1) (e_n h + 2) ((callB S.c.c k).upTo i) ∧ e_J h' (e_n h) 3 = 0 ∧ Fr (fun _ _ => False) h h' ∧ wfH h' ∧ e_n h' = e_n h + 3 ∧ e_u h' = e_u h + 22) S.c.c.n (fun i px py x h' f hi ⟨ex, ey, e, b', jj, x', wf', n', u'⟩ nx => ?_) (fun px py x h' f ⟨ex, ey, e, b', jj, x', wf', n', u'⟩ => ?_) (by omega) ⟨by rw [callB_x]; simp [sumTo], by rw [callB_y]; simp [sumTo], rfl, b4.same rfl (fun i hi => absurd hi (Nat.not_lt_zero i)) (fun i hi => absurd hi (Nat.not_lt_zero i)), j4, x4, wf4, n4, u4⟩
  · subst e ex ey
    have w' := w.fr x' wf' fun a j z => z.elim
    have hle2 : (nI S.c.c.n ≤ nI i) = False := by rw [p_le (by omega) (by omega)]; simp; omega
    simp only [lp_X4_band_22, p_fI w'.cl.k, w'.cl.n, hle2, if_false, b'.is, Option.bind_some]
    refine Ok.bind (b'.add (by rw [Bd.upTo_n]; omega) (by omega) _ _) fun h1 ⟨b1, m1⟩ => ?_
    have x1 : Fr (fun _ _ => False) h h1 := by
      refine ⟨by rw [m1.n]; exact x'.n, by rw [m1.u]; exact x'.u, fun q hq => by rw [m1.k]; exact x'.k q hq, fun q j hq z => ?_, fun q j hq z => ?_, fun q j hq z => by rw [m1.R]; exact x'.R q j hq z⟩
      · rw [m1.I q j (by omega)]; exact x'.I q j hq z
      · rw [m1.J q j (by omega)]; exact x'.J q j hq z
    have wf1 : wfH h1 := wf'.of m1.n m1.k
    have w1 := w.fr x1 wf1 fun a j z => z.elim
    have c1 := w1.cl
    have sx : (if nI i = but then Option.bind (e_fA h1 (b + 7) 3 0) (fun x54 => Option.bind (f_X4_sum F h1 (b + 7) x54) (fun x57 => some x57)) else some 0) = some (if i = k then sumTo S.c.c.dx S.c.c.n else 0) := by
      by_cases q : i = k
      · rw [if_pos ((hk i hi).mpr q), if_pos q]
        simp only [p_fA c1.k c1.rx, c1.sumX (show 9 < F by omega), Option.bind_some]
      · rw [if_neg (fun z => q ((hk i hi).mp z)), if_neg q]
    have sy : (if nI i = but then Option.bind (e_fA h1 (b + 7) 3 1) (fun x54 => Option.bind (f_X4_sum F h1 (b + 7) x54) (fun x57 => some x57)) else some 0) = some (if i = k then sumTo S.c.c.dy S.c.c.n else 0) := by
      by_cases q : i = k
      · rw [if_pos ((hk i hi).mpr q), if_pos q]
        simp only [p_fA c1.k c1.ry, c1.sumY (show 9 < F by omega), Option.bind_some]
      · rw [if_neg (fun z => q ((hk i hi).mp z)), if_neg q]
    refine Ok.eq (p_fA c1.k c1.rx) (Ok.eq (p_aI' c1.kx (show i < 8 by omega) (by decide) (c1.dx i hi)) (Ok.eq sx (Ok.sm ?_)))
    refine Ok.eq (p_fA c1.k c1.ry) (Ok.eq (p_aI' c1.ky (show i < 8 by omega) (by decide) (c1.dy i hi)) (Ok.eq sy (Ok.sm (Ok.sm ?_))))
    rw [← nI_succ]
    refine nx _ _ _ _ ⟨?_, ?_, rfl, b1.upTo_s rfl rfl, ?_, x1, wf1, by rw [m1.n, n'], by rw [m1.u, u']⟩
    · simp only [callB_x, sumTo, Int32.add_assoc]; rfl
    · simp only [callB_y, sumTo, Int32.add_assoc]; rfl
    · rw [m1.J _ _ (by omega)]; exact jj
  · subst e
    have w' := w.fr x' wf' fun a j z => z.elim
    simp only [lp_X4_band_22, p_fI w'.cl.k, w'.cl.n, Option.bind_some, Int32.le_refl, if_true]
    exact Ok.ret ⟨b', jj, x', wf', n', u'⟩
end
