/-! PURE LAYER 15: the tape; calls that tell a number -/
/-- what a call of the component leaves of the model's cells, and how much it takes -/
def Kp (b : Nat) (h h' : e_H) : Prop :=
  (e_n h ≤ e_n h') ∧
  (e_n h' ≤ e_n h + 1000) ∧
  (e_u h ≤ e_u h') ∧
  (e_u h' ≤ e_u h + 20000) ∧
  (∀ a, b + 33 ≤ a → a < b + 62 → e_k h' a = e_k h a) ∧
  (∀ a, b + 33 ≤ a → a < b + 62 → e_I h' a = e_I h a) ∧
  (∀ a, b + 33 ≤ a → a < b + 62 → e_J h' a = e_J h a) ∧
  (∀ a, b + 33 ≤ a → a < b + 62 → e_R h' a = e_R h a)
theorem Kp.n1 {b : Nat} {h h' : e_H} (w__ : Kp b h h') : e_n h ≤ e_n h' := w__.1
theorem Kp.n2 {b : Nat} {h h' : e_H} (w__ : Kp b h h') : e_n h' ≤ e_n h + 1000 := w__.2.1
theorem Kp.u1 {b : Nat} {h h' : e_H} (w__ : Kp b h h') : e_u h ≤ e_u h' := w__.2.2.1
theorem Kp.u2 {b : Nat} {h h' : e_H} (w__ : Kp b h h') : e_u h' ≤ e_u h + 20000 := w__.2.2.2.1
theorem Kp.k {b : Nat} {h h' : e_H} (w__ : Kp b h h') : ∀ a, b + 33 ≤ a → a < b + 62 → e_k h' a = e_k h a := w__.2.2.2.2.1
theorem Kp.I {b : Nat} {h h' : e_H} (w__ : Kp b h h') : ∀ a, b + 33 ≤ a → a < b + 62 → e_I h' a = e_I h a := w__.2.2.2.2.2.1
theorem Kp.J {b : Nat} {h h' : e_H} (w__ : Kp b h h') : ∀ a, b + 33 ≤ a → a < b + 62 → e_J h' a = e_J h a := w__.2.2.2.2.2.2.1
theorem Kp.R {b : Nat} {h h' : e_H} (w__ : Kp b h h') : ∀ a, b + 33 ≤ a → a < b + 62 → e_R h' a = e_R h a := w__.2.2.2.2.2.2.2
theorem Kp.rf (b : Nat) (h : e_H) : Kp b h h := ⟨Nat.le_refl _, by omega, Nat.le_refl _, by omega, fun _ _ _ => rfl, fun _ _ _ => rfl, fun _ _ _ => rfl, fun _ _ _ => rfl⟩
theorem Fr.kp {W : Nat → Nat → Prop} {b : Nat} {h h' : e_H} (x : Fr W h h') (hn : b + 62 ≤ e_n h) (hW : ∀ a j, W a j → a < b + 33 ∨ b + 62 ≤ a) (h1 : e_n h' ≤ e_n h + 1000) (h2 : e_u h' ≤ e_u h + 20000) : Kp b h h' :=
  ⟨(x.n),
  (h1),
  (x.u),
  (h2),
  (fun a z1 z2 => x.k a (by omega)),
  (fun a z1 z2 => funext fun j => x.I a j (by omega) fun w => by have := hW a j w; omega),
  (fun a z1 z2 => funext fun j => x.J a j (by omega) fun w => by have := hW a j w; omega),
  (fun a z1 z2 => funext fun j => x.R a j (by omega) fun w => by have := hW a j w; omega)⟩
theorem RM.kp {b : Nat} {h h' : e_H} {S : St} (w : RM (b + 33) h S) (x : Kp b h h') : RM (b + 33) h' S :=
  w.keep (fun a h1 h2 => x.k a h1 (by omega)) (x.R _ (by omega) (by omega)) (fun a j h1 h2 _ => by rw [x.I a h1 (by omega)]) (fun a j h1 h2 _ => by rw [x.J a h1 (by omega)])
/-- the model's own cells -/
def MA (m a : Nat) : Prop := m ≤ a ∧ a ≤ m + 27
theorem RC.mf {A : Nat → Nat} {b : Nat} {h h' : e_H} {S : St} {W : Nat → Nat → Prop} (w : RC A b h S) (x : MF W h h') (hW : ∀ a j, W a j → MA (b + 33) a) : RC A b h' S :=
  w.fr x.toFr (fun a ha => by rw [x.k]; exact w.sh.wf a (by rw [← x.n]; exact ha)) (fun a j q => by have := hW a j q; unfold MA at this; unfold CW; omega)
/-- bounds of what both stand for -/
def Bn (S : St) : Prop :=
  (S.tl ≤ 640) ∧
  (∀ i, i < S.tl → S.tp i < 256) ∧
  (S.um ≤ 8) ∧
  (S.fm ≤ 16) ∧
  (S.xm ≤ 100)
theorem Bn.tl {S : St} (w__ : Bn S) : S.tl ≤ 640 := w__.1
theorem Bn.tp {S : St} (w__ : Bn S) : ∀ i, i < S.tl → S.tp i < 256 := w__.2.1
theorem Bn.um {S : St} (w__ : Bn S) : S.um ≤ 8 := w__.2.2.1
theorem Bn.fm {S : St} (w__ : Bn S) : S.fm ≤ 16 := w__.2.2.2.1
theorem Bn.xm {S : St} (w__ : Bn S) : S.xm ≤ 100 := w__.2.2.2.2
theorem RC.kk {A : Nat → Nat} {b : Nat} {h : e_H} {S : St} (w : RC A b h S) (i : Nat) (d : e_K) (hd : (i, d) ∈ cK) : e_k h (b + i) = some d := w.sh.k _ hd
theorem RC.k0 {A : Nat → Nat} {b : Nat} {h : e_H} {S : St} (w : RC A b h S) : e_k h b = some (.inl 0) := w.sh.k (0, .inl 0) (by simp [cK])
theorem RC.r0 {A : Nat → Nat} {b : Nat} {h : e_H} {S : St} (w : RC A b h S) (f j : Nat) (hd : (0, f, j) ∈ cR) : e_R h b f = some (b + j) := w.sh.r (0, f, j) hd
theorem RC.f0 {A : Nat → Nat} {b : Nat} {h : e_H} {S : St} (w : RC A b h S) (f j : Nat) (hd : (0, f, j) ∈ cR) : e_fA h b 0 f = some (b + j) := p_fA w.k0 (w.r0 f j hd)
theorem RM.kk {m : Nat} {h : e_H} {S : St} (w : RM m h S) (i : Nat) (f t n : Nat) (hq : m_tab[i]? = some (f, t, n)) : e_k h (m + 1 + i) = some (.inr (t, n)) := (w.sh.2 i (f, t, n) hq).2
theorem RM.f0 {m : Nat} {h : e_H} {S : St} (w : RM m h S) (i : Nat) (f t n : Nat) (hq : m_tab[i]? = some (f, t, n)) : e_fA h m 8 f = some (m + 1 + i) := p_fA w.sh.1 (w.sh.2 i (f, t, n) hq).1
theorem RM.gT {m : Nat} {h : e_H} {S : St} (w : RM m h S) (v : Int32) : e_gI h m 8 0 v = some (e_sI h m 0 v) := p_gI w.sh.1 0 v
def isI (v : Int32) (n : Nat) : Bool := !decide (v < 0) && decide (v < nI n)
theorem isI_of {v : Int32} {n : Nat} (h : isI v n = true) (hn : n < 2 ^ 31) : ∃ i, v = nI i ∧ i < n := by
  unfold isI at h
  simp only [Bool.and_eq_true, Bool.not_eq_true', decide_eq_false_iff_not, decide_eq_true_iff] at h
  obtain ⟨i, hi, rfl⟩ := i_nn h.1
  exact ⟨i, rfl, (p_lt hi hn).mp h.2⟩
theorem isI_lt {v : Int32} {n : Nat} (h : isI v n = false) (hv : ¬ v < 0) : nI n ≤ v := by
  unfold isI at h
  simp only [hv, decide_false, Bool.not_false, Bool.true_and, decide_eq_false_iff_not] at h
  rw [i_not_lt] at h
  exact h
section
def St.vFormAt (S : St) (v : Int32) : Int32 := if isI v S.fm = true then S.fo v.toNatClampNeg else -1
def St.vByteAt (S : St) (v : Int32) : Int32 := if isI v S.xm = true then S.tx v.toNatClampNeg else -1
end
def Cl.closed (c : Cl) : Bool := decide (sumTo c.dx c.n = 0) && decide (sumTo c.dy c.n = 0)
def St.vCloses (S : St) : Int32 := if S.c.c.n = 0 then -1 else b2i S.c.c.closed
def St.vCount (S : St) (v : Int32) : Int32 := if v = 0 then nI S.c.d.w else if v = 1 then nI S.c.d.h else if v = 2 then nI S.c.m else if v = 3 then nI S.c.d.outs else if v = 4 then b2i S.c.d.bell else if v = 5 then nI S.c.c.n else if v = 6 then nI S.c.lm else if v = 7 then nI S.tl else -1
theorem CCl.isClosed {h : e_H} {a xs ys F : Nat} {c : Cl} (w : CCl h a xs ys c) (hF : 9 < F) : f_X4_isClosed F h a = some (b2i c.closed) := by
  have hle := w.le
  have e3 : ∀ i, i < c.n → (nI c.n ≤ nI i) = False := fun i hi => by rw [p_le (by omega) (by omega)]; simp; omega
  have l1 : f_X4_sum F h a xs = some (sumTo c.dx c.n) := by
    have hl : lp_X4_sum_4 F h a xs F 0 0 = some (sumTo c.dx c.n) := by
      refine lp_sumI (fun i v f hi => ?_) (fun v f => ?_) (by omega)
      · simp only [lp_X4_sum_4, p_fI w.k, w.n, e3 i hi, p_aI w.kx (show i < 8 by omega) (by decide), w.dx i hi, Option.bind_some, if_false, ← nI_succ]
      · simp only [lp_X4_sum_4, p_fI w.k, w.n, Option.bind_some, Int32.le_refl, if_true]
    simp only [f_X4_sum, hl, Option.bind_some]
  have l2 : f_X4_sum F h a ys = some (sumTo c.dy c.n) := by
    have hl : lp_X4_sum_4 F h a ys F 0 0 = some (sumTo c.dy c.n) := by
      refine lp_sumI (fun i v f hi => ?_) (fun v f => ?_) (by omega)
      · simp only [lp_X4_sum_4, p_fI w.k, w.n, e3 i hi, p_aI w.ky (show i < 8 by omega) (by decide), w.dy i hi, Option.bind_some, if_false, ← nI_succ]
      · simp only [lp_X4_sum_4, p_fI w.k, w.n, Option.bind_some, Int32.le_refl, if_true]
    simp only [f_X4_sum, hl, Option.bind_some]
  simp only [f_X4_isClosed, p_fA w.k w.rx, p_fA w.k w.ry, l1, l2, Option.bind_some, Cl.closed]
  by_cases q1 : sumTo c.dx c.n = 0 <;> by_cases q2 : sumTo c.dy c.n = 0 <;> simp [q1, q2, b2i]
theorem MCl.doClose {h : e_H} {m F : Nat} {c : Cl} (w : MCl (e_I h (m + 2)) c) (o : MO h m (m + 2)) (k : e_k h (m + 2) = some (.inr (0, 512))) (hF : 9 < F) : f_X10_doClose F h m = some (b2i c.closed) := by
  have hle := w.le
  have e3 : ∀ i, i < c.n → (nI c.n ≤ nI i) = False := fun i hi => by rw [p_le (by omega) (by omega)]; simp; omega
  have rd : ∀ j, j < 512 → e_aI h (m + 2) 0 (nI j) = some (e_I h (m + 2) j) := fun j hj => p_aI k hj (by decide)
  have r2 : e_aI h (m + 2) 0 242 = some (nI c.n) := by rw [show (242 : Int32) = nI 242 from rfl, rd 242 (by decide), w.n]
  have l1 : f_X10_sum F h m 0 = some (sumTo c.dx c.n) := by
    have hl : lp_X10_sum_4 F h m 0 F 0 0 = some (sumTo c.dx c.n) := by
      refine lp_sumI (fun i v f hi => ?_) (fun v f => ?_) (by omega)
      · have : (245 : Int32) + 2 * nI i + 0 = nI (245 + 2 * i) := by
          rw [Int32.add_zero, show (245 : Int32) = nI 245 from rfl, show (2 : Int32) = nI 2 from rfl, p_mul, p_add]
        simp only [lp_X10_sum_4, o.now, r2, e3 i hi, this, rd (245 + 2 * i) (by omega), w.dx i hi, Option.bind_some, if_false, ← nI_succ]
      · simp only [lp_X10_sum_4, o.now, r2, Option.bind_some, Int32.le_refl, if_true]
    simp only [f_X10_sum, hl, Option.bind_some]
  have l2 : f_X10_sum F h m 1 = some (sumTo c.dy c.n) := by
    have hl : lp_X10_sum_4 F h m 1 F 0 0 = some (sumTo c.dy c.n) := by
      refine lp_sumI (fun i v f hi => ?_) (fun v f => ?_) (by omega)
      · have : (245 : Int32) + 2 * nI i + 1 = nI (246 + 2 * i) := by
          rw [show (245 : Int32) = nI 245 from rfl, show (2 : Int32) = nI 2 from rfl, show (1 : Int32) = nI 1 from rfl, p_mul, p_add, p_add]
          congr 1; omega
        simp only [lp_X10_sum_4, o.now, r2, e3 i hi, this, rd (246 + 2 * i) (by omega), w.dy i hi, Option.bind_some, if_false, ← nI_succ]
      · simp only [lp_X10_sum_4, o.now, r2, Option.bind_some, Int32.le_refl, if_true]
    simp only [f_X10_sum, hl, Option.bind_some]
  simp only [f_X10_doClose, o.is, l1, l2, Option.bind_some, Cl.closed]
  by_cases q1 : sumTo c.dx c.n = 0 <;> by_cases q2 : sumTo c.dy c.n = 0 <;> simp [q1, q2, b2i]
section
variable {A : Nat → Nat} {b : Nat} {h : e_H} {S : St}
theorem RC.vfault (w : RC A b h S) : f_X1_fault h b = some S.fault := by simp only [f_X1_fault, p_fI w.k0, w.fault, Option.bind_some]
theorem RC.vwhy (w : RC A b h S) : f_X1_why h b = some S.why := by simp only [f_X1_why, p_fI w.k0, w.why, Option.bind_some]
theorem RC.formAt (w : RC A b h S) (bn : Bn S) (v : Int32) : f_X1_formAt h b v = some (S.vFormAt v) := by
  have h16 := bn.fm
  simp only [f_X1_formAt, p_fI w.k0, w.fm, f_isIn, g_in_pred (show S.fm ≤ 10000 by omega), Option.bind_some, St.vFormAt]
  change (if b2i (isI v S.fm) = 0 then _ else _) = _
  cases q : isI v S.fm with
  | false => rfl
  | true =>
    obtain ⟨i, rfl, hi⟩ := isI_of q (by omega)
    simp only [w.f0 16 18 (by decide), p_aI (w.kk 18 (.inr (0, 16)) (by simp [cK])) (show i < 16 by omega) (by decide), w.fo i hi, nI_clamp (show i < 2 ^ 31 by omega), Option.bind_some]
    rfl
theorem RC.byteAt (w : RC A b h S) (bn : Bn S) (v : Int32) : f_X1_byteAt h b v = some (S.vByteAt v) := by
  have h16 := bn.xm
  simp only [f_X1_byteAt, p_fI w.k0, w.xm, f_isIn, g_in_pred (show S.xm ≤ 10000 by omega), Option.bind_some, St.vByteAt]
  change (if b2i (isI v S.xm) = 0 then _ else _) = _
  cases q : isI v S.xm with
  | false => rfl
  | true =>
    obtain ⟨i, rfl, hi⟩ := isI_of q (by omega)
    simp only [w.f0 20 20 (by decide), p_aI (w.kk 20 (.inr (1, 100)) (by simp [cK])) (show i < 100 by omega) (by decide), w.tx i hi, nI_clamp (show i < 2 ^ 31 by omega), Option.bind_some]
    rfl
theorem RC.closes (w : RC A b h S) {F : Nat} (hF : 9 < F) : f_X1_closes F h b = some S.vCloses := by
  have hle := w.cl.le
  simp only [f_X1_closes, w.f0 7 7 (by decide), p_fI w.cl.k, w.cl.n, p_is w.cl.k, w.cl.isClosed hF, Option.bind_some, St.vCloses]
  by_cases q : S.c.c.n = 0
  · rw [q]; rfl
  · have : ¬ nI S.c.c.n = 0 := by rw [p_e0 (by omega)]; exact q
    simp only [q, this, if_false]
    cases S.c.c.closed <;> rfl
theorem RC.count (w : RC A b h S) (v : Int32) : f_X1_count h b v = some (S.vCount v) := by
  obtain ⟨B, o, ba, cv⟩ := w.view
  have bh := cv.bh
  simp only [f_X1_count, cv.fB, cv.fm, p_fI bh.k, bh.w, bh.hh, bh.outs, bh.bell, w.f0 7 7 (by decide), p_fI w.cl.k, w.cl.n, p_fI w.k0, w.lm, w.tl, Option.bind_some, St.vCount]
  by_cases k0 : v = 0
  · simp [k0]
  by_cases k1 : v = 1
  · simp [k1]
  by_cases k2 : v = 2
  · simp [k2]
  by_cases k3 : v = 3
  · simp [k3]
  by_cases k4 : v = 4
  · simp only [k4, show ¬ (4 : Int32) = 0 by decide, show ¬ (4 : Int32) = 1 by decide, show ¬ (4 : Int32) = 2 by decide, show ¬ (4 : Int32) = 3 by decide, if_false, if_true]
    cases S.c.d.bell <;> rfl
  by_cases k5 : v = 5
  · simp [k5]
  by_cases k6 : v = 6
  · simp [k6]
  by_cases k7 : v = 7
  · simp [k7]
  simp [k0, k1, k2, k3, k4, k5, k6, k7]
end
section
variable {m : Nat} {h : e_H} {S : St}
theorem RM.vfault (w0 : RM m h S) : f_X10_fault h m = some (S.fault, e_sI h m 0 0) := by
  have w := w0.thr 0
  simp only [f_X10_fault, w0.gT, p_fI w.sh.1, w.fault, Option.bind_some]
theorem RM.vwhy (w0 : RM m h S) : f_X10_why h m = some (S.why, e_sI h m 0 0) := by
  have w := w0.thr 0
  simp only [f_X10_why, w0.gT, p_fI w.sh.1, w.why, Option.bind_some]
theorem RM.formAt (w0 : RM m h S) (bn : Bn S) (v : Int32) : f_X10_formAt h m v = some (S.vFormAt v, e_sI h m 0 0) := by
  have w := w0.thr 0
  have h16 := bn.fm
  simp only [f_X10_formAt, w0.gT, p_fI w.sh.1, w.fm, Option.bind_some, St.vFormAt]
  by_cases q0 : v < 0
  · simp [q0, isI]
  · rw [if_neg q0]
    cases q : isI v S.fm with
    | false => rw [if_pos (isI_lt q q0)]; rfl
    | true =>
      obtain ⟨i, rfl, hi⟩ := isI_of q (by omega)
      have hle : ¬ nI S.fm ≤ nI i := by rw [p_le (by omega) (by omega)]; omega
      simp only [hle, if_false, w.f0 17 32 0 16 rfl, p_aI (w.kk 17 32 0 16 rfl) (show i < 16 by omega) (by decide), show m + 1 + 17 = m + 18 from rfl, w.fo i hi, nI_clamp (show i < 2 ^ 31 by omega), Option.bind_some]
      rfl
theorem RM.byteAt (w0 : RM m h S) (bn : Bn S) (v : Int32) : f_X10_byteAt h m v = some (S.vByteAt v, e_sI h m 0 0) := by
  have w := w0.thr 0
  have h16 := bn.xm
  simp only [f_X10_byteAt, w0.gT, p_fI w.sh.1, w.xm, Option.bind_some, St.vByteAt]
  by_cases q0 : v < 0
  · simp [q0, isI]
  · rw [if_neg q0]
    cases q : isI v S.xm with
    | false => rw [if_pos (isI_lt q q0)]; rfl
    | true =>
      obtain ⟨i, rfl, hi⟩ := isI_of q (by omega)
      have hle : ¬ nI S.xm ≤ nI i := by rw [p_le (by omega) (by omega)]; omega
      simp only [hle, if_false, w.f0 18 35 0 200 rfl, p_aI (w.kk 18 35 0 200 rfl) (show i < 200 by omega) (by decide), show m + 1 + 18 = m + 19 from rfl, w.tx i hi, nI_clamp (show i < 2 ^ 31 by omega), Option.bind_some]
      rfl
theorem RM.now512 (w0 : RM m h S) : e_k h (m + 2) = some (.inr (0, 512)) := w0.kk 1 15 0 512 rfl
theorem RM.rdN (w0 : RM m h S) {j : Nat} (hj : j < 512) : e_aI h (m + 2) 0 (nI j) = some (e_I h (m + 2) j) := p_aI w0.now512 hj (by decide)
theorem RM.closes (w0 : RM m h S) {F : Nat} (hF : 9 < F) : f_X10_closes F h m = some (S.vCloses, e_sI h m 0 0) := by
  have w := w0.thr 0
  have hle := w.c.cl.le
  have r1 : e_aI (e_sI h m 0 0) (m + 2) 0 241 = some (b2i (decide (0 < S.c.c.n))) := by rw [show (241 : Int32) = nI 241 from rfl, w.rdN (by decide), w.c.cl.has]
  simp only [f_X10_closes, w0.gT, w.view.o.now, r1, w.c.cl.doClose w.view.o w.now512 hF, Option.bind_some, St.vCloses]
  by_cases q : S.c.c.n = 0
  · rw [q]; rfl
  · have : decide (0 < S.c.c.n) = true := by rw [decide_eq_true_iff]; omega
    simp only [q, this, if_false]
    cases S.c.c.closed <;> rfl
theorem RM.count (w0 : RM m h S) (v : Int32) : f_X10_count h m v = some (S.vCount v, e_sI h m 0 0) := by
  have w := w0.thr 0
  have r := w.c.row.hd
  have r0 : e_aI (e_sI h m 0 0) (m + 2) 0 0 = some (nI S.c.d.w) := (w.rdN (j := 0) (by decide)).trans (by rw [r.w])
  have r1 : e_aI (e_sI h m 0 0) (m + 2) 0 1 = some (nI S.c.d.h) := by rw [show (1 : Int32) = nI 1 from rfl, w.rdN (by decide), r.hh]
  have r2 : e_aI (e_sI h m 0 0) (m + 2) 0 2 = some (b2i S.c.d.bell) := by rw [show (2 : Int32) = nI 2 from rfl, w.rdN (by decide), r.bell]
  have r3 : e_aI (e_sI h m 0 0) (m + 2) 0 3 = some (nI S.c.d.outs) := by rw [show (3 : Int32) = nI 3 from rfl, w.rdN (by decide), r.outs]
  have r4 : e_aI (e_sI h m 0 0) (m + 2) 0 242 = some (nI S.c.c.n) := by rw [show (242 : Int32) = nI 242 from rfl, w.rdN (by decide), w.c.cl.n]
  have r5 : e_aI (e_sI h m 0 0) (m + 2) 0 261 = some (nI S.c.lm) := by rw [show (261 : Int32) = nI 261 from rfl, w.rdN (by decide), w.c.ln.n]
  simp only [f_X10_count, w0.gT, w.view.o.now, w.view.o.is, w.view.bands, r0, r1, r2, r3, r4, r5, p_fI w.sh.1, w.tl, Option.bind_some, St.vCount]
  repeat' split
  all_goals rfl
end
/-! feed, end -/
def byt (v : Int32) (k : Nat) : Nat := v.toBitVec.toNat / 2 ^ k % 256
theorem byt_lt (v : Int32) (k : Nat) : byt v k < 256 := Nat.mod_lt _ (by decide)
theorem bv_tr (v : BitVec 32) (k : Nat) (hk : k ≤ 24) : (v.sshiftRight k).setWidth 8 = (BitVec.ofNat 32 (v.toNat / 2 ^ k % 256)).setWidth 8 := by
  apply BitVec.eq_of_getLsbD_eq
  intro i hi
  simp only [BitVec.getLsbD_setWidth, BitVec.getLsbD_sshiftRight, BitVec.getLsbD_ofNat]
  rw [show (256 : Nat) = 2 ^ 8 from rfl, Nat.testBit_mod_two_pow, Nat.testBit_div_two_pow, BitVec.getLsbD]
  simp only [hi, decide_true, Bool.true_and, show k + i < 32 by omega, if_true, show ¬ 32 ≤ i by omega, decide_false, Bool.not_false, show i < 32 by omega, Nat.add_comm i k]
theorem i8_eq {a b : BitVec 32} (h : a.setWidth 8 = b.setWidth 8) : (Int32.ofBitVec a).toInt8.toInt32 = (Int32.ofBitVec b).toInt8.toInt32 := by
  have : (Int32.ofBitVec a).toInt8 = (Int32.ofBitVec b).toInt8 := by
    apply Int8.toBitVec_inj.mp
    show BitVec.signExtend 8 a = BitVec.signExtend 8 b
    rw [BitVec.signExtend_eq_setWidth_of_le _ (by decide), BitVec.signExtend_eq_setWidth_of_le _ (by decide)]
    exact h
  rw [this]
theorem shr_eq (v : Int32) (k : Nat) (s : Int32) (hs : (s.toBitVec.smod 32).toNat = k) : v >>> s = Int32.ofBitVec (v.toBitVec.sshiftRight k) := by
  apply Int32.toBitVec_inj.mp
  show v.toBitVec.sshiftRight' (s.toBitVec.smod 32) = _
  rw [BitVec.sshiftRight', hs]
  rfl
theorem byt_c (v : Int32) (k : Nat) (s : Int32) (hk : k ≤ 24) (hs : (s.toBitVec.smod 32).toNat = k) : ((v >>> s).toInt8.toInt32).toInt8.toInt32 = sbyte (byt v k) := by
  have e : (v >>> s).toInt8.toInt32 = sbyte (byt v k) := by
    rw [shr_eq v k s hs]
    unfold sbyte nI byt
    exact i8_eq (bv_tr v.toBitVec k hk)
  rw [e]
  unfold sbyte
  rw [Int8.toInt8_toInt32]
theorem byt_m (v : Int32) (k : Nat) (s : UInt32) (hk : k ≤ 24) (hs : (s.toBitVec % 32).toNat = k) : ((v.toUInt32 >>> s).toInt32) &&& 255 = nI (byt v k) := by
  apply Int32.toBitVec_inj.mp
  show (v.toBitVec >>> (s.toBitVec % 32)) &&& 255#32 = BitVec.ofNat 32 (byt v k)
  apply BitVec.eq_of_toNat_eq
  rw [BitVec.toNat_and, BitVec.ushiftRight_eq', BitVec.toNat_ushiftRight, hs, BitVec.toNat_ofNat, BitVec.toNat_ofNat, Nat.shiftRight_eq_div_pow]
  unfold byt
  rw [show (255 % 2 ^ 32 : Nat) = 2 ^ 8 - 1 from rfl, Nat.and_two_pow_sub_one_eq_mod, Nat.mod_eq_of_lt (b := 2 ^ 32)]
  have : v.toBitVec.toNat / 2 ^ k % 256 < 256 := Nat.mod_lt _ (by decide)
  omega
/-- a byte more on the tape -/
def St.put (S : St) (n : Nat) : St := (St.mk (S.tl + 1) (fun i => if i = S.tl then n else S.tp i) S.fault S.why S.c S.um S.ud S.fm S.fo S.xm S.tx S.im)
def St.put4 (S : St) (v : Int32) : St := (((S.put (byt v 24)).put (byt v 16)).put (byt v 8)).put (byt v 0)
theorem Bn.put {S : St} (bn : Bn S) {n : Nat} (h : S.tl < 640) (hn : n < 256) : Bn (S.put n) := by
  refine ⟨?_, fun i hi => ?_, bn.um, bn.fm, bn.xm⟩
  · show S.tl + 1 ≤ 640; omega
  · show (if i = S.tl then n else S.tp i) < 256
    split
    · exact hn
    · exact bn.tp i (by have : i < S.tl + 1 := hi; omega)
theorem Bn.put4 {S : St} (bn : Bn S) (v : Int32) (h : S.tl + 4 ≤ 640) : Bn (S.put4 v) := by
  refine Bn.put (Bn.put (Bn.put (Bn.put bn ?_ (byt_lt _ _)) ?_ (byt_lt _ _)) ?_ (byt_lt _ _)) ?_ (byt_lt _ _)
  · omega
  · show S.tl + 1 < 640; omega
  · show S.tl + 1 + 1 < 640; omega
  · show S.tl + 1 + 1 + 1 < 640; omega
/-- the tape's places -/
def TW (b a j : Nat) : Prop := (a = b ∧ j = 1) ∨ a = b + 1
theorem cR_TW {b : Nat} : ∀ q ∈ cR, ¬ TW b (b + q.1) q.2.1 := by
  have : ∀ q ∈ cR, q.1 ≠ 1 ∧ ¬ (q.1 = 0 ∧ q.2.1 = 1) := by decide
  intro q hq; have := this q hq; unfold TW; omega
theorem RC.tape {A : Nat → Nat} {b : Nat} {h h' : e_H} {S S' : St} (w : RC A b h S) (x : Fr (TW b) h h') (wf : ∀ a, e_n h' ≤ a → e_k h' a = none) (hS : S' = (St.mk (S'.tl) (S'.tp) S.fault S.why S.c S.um S.ud S.fm S.fo S.xm S.tx S.im)) (tl : e_I h' b 1 = nI S'.tl) (tp : ∀ i, i < S'.tl → e_I h' (b + 1) i = sbyte (S'.tp i)) : RC A b h' S' := by
  have hn := w.sh.n
  have cw := cR_TW (b := b)
  have hk : ∀ a, e_k h a ≠ none → e_k h' a = e_k h a := fun a ha => x.k a (kne w.sh.wf ha)
  rw [hS]
  exact ⟨(w.sh.fr x wf cw (fun j => by unfold TW; omega) (fun j => by unfold TW; omega) (by unfold TW; omega) (by unfold TW; omega) (by unfold TW; omega)),
    (tl),
    (tp),
    ((x.I (b) 11 (by omega) (by unfold TW; omega)).trans w.fault),
    ((x.I (b) 12 (by omega) (by unfold TW; omega)).trans w.why),
    ((x.I (b) 17 (by omega) (by unfold TW; omega)).trans w.fm),
    (fun i hi => (x.I (b + 18) i (by omega) (by unfold TW; omega)).trans (w.fo i hi)),
    ((x.I (b) 19 (by omega) (by unfold TW; omega)).trans w.um),
    ((x.I (b) 21 (by omega) (by unfold TW; omega)).trans w.xm),
    (fun i hi => (x.I (b + 20) i (by omega) (by unfold TW; omega)).trans (w.tx i hi)),
    ((x.I (b) 33 (by omega) (by unfold TW; omega)).trans w.lm),
    (w.ln.ev hk (funext fun j => (x.I (b + 28) j (by omega) (by unfold TW; omega))) (funext fun j => (x.I (b + 29) j (by omega) (by unfold TW; omega)))),
    (w.cl.ev hk (x.R (b + 7) 0 (by omega) (by unfold TW; omega)) (x.R (b + 7) 1 (by omega) (by unfold TW; omega)) (x.I (b + 7) 2 (by omega) (by unfold TW; omega)) (x.I (b + 7) 3 (by omega) (by unfold TW; omega)) (x.I (b + 7) 4 (by omega) (by unfold TW; omega)) (funext fun j => (x.I (b + 8) j (by omega) (by unfold TW; omega))) (funext fun j => (x.I (b + 9) j (by omega) (by unfold TW; omega)))),
    (by
      obtain ⟨rl, d⟩ := w.dyn
      have d' := d.fr w.sh.wf hn x (fun a j z => by
        by_cases q : rl a = 0
        · exact q
        · have := (d.dom a q).2
          unfold TW at z; omega) (by unfold TW; omega) (by unfold TW; omega) (fun j => by unfold TW; omega) (fun j => by unfold TW; omega)
      exact ⟨rl, d'.dom, d'.cur, d'.und, d'.sen, d'.img⟩)⟩
theorem RC.put {A : Nat → Nat} {b : Nat} {h : e_H} {S : St} (w : RC A b h S) (n : Nat) : RC A b (e_sI (e_sI h (b + 1) S.tl (sbyte n)) b 1 (nI (S.tl + 1))) (S.put n) := by
  refine w.tape (((Fr.rf _ h).sI _ (by unfold TW; omega)).sI _ (by unfold TW; omega)) w.sh.wf rfl ?_ fun i hi => ?_
  · rw [e_I_sI, if_pos ⟨rfl, rfl⟩]; rfl
  · rw [e_I_sI, if_neg (by omega), e_I_sI]
    show _ = sbyte (if i = S.tl then n else S.tp i)
    by_cases q : i = S.tl
    · rw [if_pos ⟨rfl, q⟩, if_pos q]
    · rw [if_neg (fun z => q z.2), if_neg q]
      exact w.tp i (by have : i < S.tl + 1 := hi; omega)
theorem RC.four {A : Nat → Nat} {b F : Nat} {h : e_H} {S : St} (w : RC A b h S) (hF : 10 < F) (bn : Bn S) (hl : S.tl + 4 ≤ 640) (v : Int32) : Ok (f_X1_four F h b v) fun h' => RC A b h' (S.put4 v) ∧ Fr (TW b) h h' ∧ e_n h' = e_n h ∧ e_u h' = e_u h := by
  obtain ⟨F, rfl⟩ : ∃ g, F = g + 5 := ⟨F - 5, by omega⟩
  have step : ∀ (f : Nat) (g : e_H) (T : St) (k : Int32) (kn : Nat), RC A b g T → Bn T → T.tl < 640 → ¬ k < 0 → kn ≤ 24 → ((k &&& 31).toBitVec.smod 32).toNat = kn → lp_X1_four_3 (F + 5) b v (f + 1) k g = lp_X1_four_3 (F + 5) b v f (k + (-8)) (e_sI (e_sI g (b + 1) T.tl (sbyte (byt v kn))) b 1 (nI (T.tl + 1))) := by
    intro f g T k kn w bn ht hk hkn hs
    have e1 : e_fI (e_sI g (b + 1) T.tl (sbyte (byt v kn))) b 0 1 = some (nI T.tl) := by
      rw [p_fI (show e_k (e_sI g (b + 1) T.tl (sbyte (byt v kn))) b = some (.inl 0) from w.k0), e_I_sI, if_neg (by omega), w.tl]
    have e2 : ∀ u, e_gI (e_sI g (b + 1) T.tl (sbyte (byt v kn))) b 0 1 u = some (e_sI (e_sI g (b + 1) T.tl (sbyte (byt v kn))) b 1 u) := fun u => p_gI (show e_k (e_sI g (b + 1) T.tl (sbyte (byt v kn))) b = some (.inl 0) from w.k0) 1 u
    simp only [lp_X1_four_3, hk, if_false, w.f0 0 1 (by decide), p_fI w.k0, w.tl, byt_c v kn (k &&& 31) hkn hs, p_wI (w.kk 1 (.inr (1, 640)) (by simp [cK])) ht (by decide), e1, e2, Option.bind_some, ← nI_succ]
  have w1 := w.put (byt v 24)
  have b1 := bn.put (n := byt v 24) (by omega) (byt_lt _ _)
  have w2 := w1.put (byt v 16)
  have b2 := b1.put (n := byt v 16) (by show S.tl + 1 < 640; omega) (byt_lt _ _)
  have w3 := w2.put (byt v 8)
  have b3 := b2.put (n := byt v 8) (by show S.tl + 1 + 1 < 640; omega) (byt_lt _ _)
  have w4 := w3.put (byt v 0)
  have e1 := step (F + 4) _ _ 24 24 w bn (by omega) (by decide) (by decide) (by decide)
  have e2 := step (F + 3) _ _ 16 16 w1 b1 (by show S.tl + 1 < 640; omega) (by decide) (by decide) (by decide)
  have e3 := step (F + 2) _ _ 8 8 w2 b2 (by show S.tl + 1 + 1 < 640; omega) (by decide) (by decide) (by decide)
  have e4 := step (F + 1) _ _ 0 0 w3 b3 (by show S.tl + 1 + 1 + 1 < 640; omega) (by decide) (by decide) (by decide)
  rw [show (24 : Int32) + (-8) = 16 by decide] at e1
  rw [show (16 : Int32) + (-8) = 8 by decide] at e2
  rw [show (8 : Int32) + (-8) = 0 by decide] at e3
  rw [show (0 : Int32) + (-8) = -8 by decide] at e4
  refine ⟨_, ?_, w4, ?_, rfl, rfl⟩
  · simp only [f_X1_four]
    rw [e1, e2, e3, e4]
    simp only [lp_X1_four_3, show (-8 : Int32) < 0 by decide, if_true, Option.bind_some]
  · refine (((((((Fr.rf _ h).sI _ ?_).sI _ ?_).sI _ ?_).sI _ ?_).sI _ ?_).sI _ ?_).sI _ ?_ |>.sI _ ?_ <;> (unfold TW; omega)
def St.feed (S : St) (a b c d e : Int32) : St := if S.tl + 20 ≤ 640 then ((((S.put4 a).put4 b).put4 c).put4 d).put4 e else S
def St.vFeed (S : St) : Int32 := if S.tl + 20 ≤ 640 then nI (S.tl + 20) else -1
theorem put4_tl (S : St) (v : Int32) : (S.put4 v).tl = S.tl + 4 := rfl
theorem Bn.feed {S : St} (bn : Bn S) (p q r s t : Int32) : Bn (S.feed p q r s t) := by
  unfold St.feed
  split
  · exact ((((bn.put4 p (by omega)).put4 q (by rw [put4_tl]; omega)).put4 r (by rw [put4_tl, put4_tl]; omega)).put4 s (by rw [put4_tl, put4_tl, put4_tl]; omega)).put4 t (by rw [put4_tl, put4_tl, put4_tl, put4_tl]; omega)
  · exact bn
theorem RC.feed {A : Nat → Nat} {b F : Nat} {h : e_H} {S : St} (w : RC A b h S) (hF : 10 < F) (bn : Bn S) (p q r s t : Int32) : Ok (f_X1_feed F h b p q r s t) fun z => z.1 = S.vFeed ∧ RC A b z.2 (S.feed p q r s t) ∧ Kp b h z.2 := by
  have hn := w.sh.n
  have h640 := bn.tl
  have e20 : (nI S.tl + 20 ≤ 640) = (S.tl + 20 ≤ 640) := by
    rw [show (20 : Int32) = nI 20 from rfl, show (640 : Int32) = nI 640 from rfl, p_add, p_le (by omega) (by omega)]
  unfold f_X1_feed St.feed St.vFeed
  refine Ok.eq (by rw [p_fI w.k0, w.tl]) ?_
  refine Ok.ite (fun hc => ?_) (fun hc => ?_) <;> rw [e20] at hc
  · rw [if_pos hc, if_pos hc]
    refine Ok.bind (w.four hF bn (by omega) p) fun h1 ⟨w1, x1, n1, u1⟩ => Ok.is w1.k0 ?_
    refine Ok.bind (w1.four hF (bn.put4 p (by omega)) (by rw [put4_tl]; omega) q) fun h2 ⟨w2, x2, n2, u2⟩ => Ok.is w2.k0 ?_
    refine Ok.bind (w2.four hF ((bn.put4 p (by omega)).put4 q (by rw [put4_tl]; omega)) (by rw [put4_tl, put4_tl]; omega) r) fun h3 ⟨w3, x3, n3, u3⟩ => Ok.is w3.k0 ?_
    refine Ok.bind (w3.four hF (((bn.put4 p (by omega)).put4 q (by rw [put4_tl]; omega)).put4 r (by rw [put4_tl, put4_tl]; omega)) (by rw [put4_tl, put4_tl, put4_tl]; omega) s) fun h4 ⟨w4, x4, n4, u4⟩ => Ok.is w4.k0 ?_
    refine Ok.bind (w4.four hF ((((bn.put4 p (by omega)).put4 q (by rw [put4_tl]; omega)).put4 r (by rw [put4_tl, put4_tl]; omega)).put4 s (by rw [put4_tl, put4_tl, put4_tl]; omega)) (by rw [put4_tl, put4_tl, put4_tl, put4_tl]; omega) t) fun h5 ⟨w5, x5, n5, u5⟩ => ?_
    refine Ok.eq (v := nI (S.tl + 20)) (by rw [p_fI w5.k0, w5.tl]; rfl) (Ok.ret ⟨rfl, w5, ?_⟩)
    exact ((((x1.tr x2).tr x3).tr x4).tr x5).kp hn (fun a j z => by unfold TW at z; omega) (by show e_n h5 ≤ _; omega) (by show e_u h5 ≤ _; omega)
  · rw [if_neg hc, if_neg hc]
    exact Ok.ret ⟨rfl, w, Kp.rf b h⟩
def St.cut (S : St) (v : Int32) : St := if isI v (S.tl + 1) = true then (St.mk (v.toNatClampNeg) S.tp S.fault S.why S.c S.um S.ud S.fm S.fo S.xm S.tx S.im) else S
def St.vEnd (S : St) (v : Int32) : Int32 := b2i (isI v (S.tl + 1))
theorem Bn.cut {S : St} (bn : Bn S) (v : Int32) : Bn (S.cut v) := by
  have := bn.tl
  unfold St.cut
  split
  · rename_i q
    obtain ⟨i, rfl, hi⟩ := isI_of q (by omega)
    refine ⟨?_, fun j hj => ?_, bn.um, bn.fm, bn.xm⟩
    · show (nI i).toNatClampNeg ≤ 640; rw [nI_clamp (by omega)]; omega
    · have hj : j < (nI i).toNatClampNeg := hj
      rw [nI_clamp (by omega)] at hj
      exact bn.tp j (by omega)
  · exact bn
theorem isI_succ {v : Int32} {n : Nat} (hn : n + 1 < 2 ^ 31) (hv : ¬ v < 0) : (v ≤ nI n) = (isI v (n + 1) = true) := by
  obtain ⟨i, hi, rfl⟩ := i_nn hv
  unfold isI
  simp only [hv, decide_false, Bool.not_false, Bool.true_and, decide_eq_true_iff]
  rw [p_le hi (by omega), p_lt hi hn]
  rw [eq_iff_iff]; omega
theorem RC.end' {A : Nat → Nat} {b : Nat} {h : e_H} {S : St} (w : RC A b h S) (bn : Bn S) (v : Int32) : Ok (f_X1_end h b v) fun z => z.1 = S.vEnd v ∧ RC A b z.2 (S.cut v) ∧ Kp b h z.2 := by
  have hn := w.sh.n
  have h640 := bn.tl
  unfold f_X1_end St.cut St.vEnd
  refine Ok.ite (fun hc => ?_) (fun hc => ?_)
  · have : isI v (S.tl + 1) = false := by unfold isI; simp [hc]
    rw [this]
    exact Ok.ret ⟨rfl, w, Kp.rf b h⟩
  · refine Ok.eq (by rw [p_fI w.k0, w.tl]) ?_
    refine Ok.ite (fun hq => ?_) (fun hq => ?_) <;> rw [isI_succ (by omega) hc] at hq
    · rw [if_pos hq, hq]
      obtain ⟨i, rfl, hi⟩ := isI_of hq (by omega)
      refine Ok.gI w.k0 (Ok.ret ⟨rfl, ?_, ((Fr.rf (TW b) h).sI _ (by unfold TW; omega)).kp hn (fun a j z => by unfold TW at z; omega) (Nat.le_add_right _ _) (Nat.le_add_right _ _)⟩)
      refine w.tape ((Fr.rf _ h).sI _ (by unfold TW; omega)) w.sh.wf rfl ?_ fun j hj => ?_
      · show e_I (e_sI h b 1 (nI i)) b 1 = nI (nI i).toNatClampNeg
        rw [e_I_sI, if_pos ⟨rfl, rfl⟩, nI_clamp (by omega)]
      · have hj : j < (nI i).toNatClampNeg := hj
        rw [nI_clamp (by omega)] at hj
        show e_I (e_sI h b 1 (nI i)) (b + 1) j = _
        rw [e_I_sI, if_neg (by omega)]; exact w.tp j (by omega)
    · rw [if_neg hq]
      have : isI v (S.tl + 1) = false := by cases z : isI v (S.tl + 1); rfl; exact absurd z hq
      rw [this]
      exact Ok.ret ⟨rfl, w, Kp.rf b h⟩
theorem RM.tape {m : Nat} {h h' : e_H} {S S' : St} (w : RM m h S) (x : MF (fun a j => (a = m ∧ (j = 0 ∨ j = 2)) ∨ a = m + 1) h h') (hS : S' = (St.mk (S'.tl) (S'.tp) S.fault S.why S.c S.um S.ud S.fm S.fo S.xm S.tx S.im)) (tl : e_I h' m 2 = nI S'.tl) (tp : ∀ i, i < S'.tl → e_I h' (m + 1) i = nI (S'.tp i)) : RM m h' S' := by
  have FI : ∀ k, 2 ≤ k → e_I h' (m + k) = e_I h (m + k) := fun k h1 => funext fun j => x.I _ _ (by omega)
  have FJ : ∀ k, 2 ≤ k → e_J h' (m + k) = e_J h (m + k) := fun k h1 => funext fun j => x.J _ _ (by omega)
  have F0 : ∀ j, j ≠ 0 → j ≠ 2 → e_I h' m j = e_I h m j := fun j h1 h2 => x.I _ _ (by omega)
  rw [hS]
  refine ⟨w.sh.mf (fun a _ _ => by rw [x.k]) (by rw [x.R]), tl, tp, ?_, ?_, ?_, ?_, ?_, ?_, ?_, ?_, ?_, ?_, ?_⟩
  · exact (F0 10 (by decide) (by decide)).trans w.fault
  · exact (F0 12 (by decide) (by decide)).trans w.why
  · rw [FI 2 (by decide), FJ 7 (by decide), FJ 10 (by decide)]; exact w.c
  · exact (F0 27 (by decide) (by decide)).trans w.um
  · rw [FI 6 (by decide), FJ 9 (by decide)]; exact w.ud
  · exact (F0 33 (by decide) (by decide)).trans w.fm
  · rw [FI 18 (by decide)]; exact w.fo
  · exact (F0 36 (by decide) (by decide)).trans w.xm
  · rw [FI 19 (by decide)]; exact w.tx
  · rw [FI 13 (by decide)]; exact w.has
  · rw [FI 5 (by decide), FJ 11 (by decide), FJ 12 (by decide)]; exact w.im
theorem RM.put {m : Nat} {h : e_H} {S : St} (w : RM m h S) (n : Nat) : RM m (e_sI (e_sI h (m + 1) S.tl (nI n)) m 2 (nI (S.tl + 1))) (S.put n) := by
  refine w.tape (((MF.rf _ h).sI _ (by omega)).sI _ (by omega)) rfl ?_ fun i hi => ?_
  · rw [e_I_sI, if_pos ⟨rfl, rfl⟩]; rfl
  · rw [e_I_sI, if_neg (by omega), e_I_sI]
    show _ = nI (if i = S.tl then n else S.tp i)
    by_cases q : i = S.tl
    · rw [if_pos ⟨rfl, q⟩, if_pos q]
    · rw [if_neg (fun z => q z.2), if_neg q]
      exact w.tp i (by have : i < S.tl + 1 := hi; omega)
theorem RM.come {m F : Nat} {h : e_H} {S : St} (w : RM m h S) (hF : 10 < F) (bn : Bn S) (hl : S.tl + 4 ≤ 640) (v : Int32) : Ok (f_X10_come F h m v) fun h' => RM m h' (S.put4 v) ∧ MF (fun a _ => MA m a) h h' := by
  obtain ⟨F, rfl⟩ : ∃ g, F = g + 5 := ⟨F - 5, by omega⟩
  have step : ∀ (f : Nat) (g : e_H) (T : St) (k : Int32) (kn : Nat), RM m g T → Bn T → T.tl < 640 → ¬ k < 0 → kn ≤ 24 → ((k.toUInt32 &&& Int32.toUInt32 31).toBitVec % 32).toNat = kn → lp_X10_come_3 (F + 5) m v (f + 1) k g = lp_X10_come_3 (F + 5) m v f (k + (-8)) (e_sI (e_sI g (m + 1) T.tl (nI (byt v kn))) m 2 (nI (T.tl + 1))) := by
    intro f g T k kn w bn ht hk hkn hs
    have k1 : e_k (e_sI g (m + 1) T.tl (nI (byt v kn))) m = some (.inl 8) := w.sh.1
    have e1 : e_fI (e_sI g (m + 1) T.tl (nI (byt v kn))) m 8 2 = some (nI T.tl) := by
      rw [p_fI k1, e_I_sI, if_neg (by omega), w.tl]
    have e2 : ∀ u, e_gI (e_sI g (m + 1) T.tl (nI (byt v kn))) m 8 2 u = some (e_sI (e_sI g (m + 1) T.tl (nI (byt v kn))) m 2 u) := fun u => p_gI k1 2 u
    simp only [lp_X10_come_3, hk, if_false, w.f0 0 1 0 640 rfl, p_fI w.sh.1, w.tl, byt_m v kn (k.toUInt32 &&& Int32.toUInt32 31) hkn hs, p_wI (w.kk 0 1 0 640 rfl) ht (by decide), show m + 1 + 0 = m + 1 from rfl, e1, e2, Option.bind_some, ← nI_succ]
  have w1 := w.put (byt v 24)
  have b1 := bn.put (n := byt v 24) (by omega) (byt_lt _ _)
  have w2 := w1.put (byt v 16)
  have b2 := b1.put (n := byt v 16) (by show S.tl + 1 < 640; omega) (byt_lt _ _)
  have w3 := w2.put (byt v 8)
  have b3 := b2.put (n := byt v 8) (by show S.tl + 1 + 1 < 640; omega) (byt_lt _ _)
  have w4 := w3.put (byt v 0)
  have e1 := step (F + 4) _ _ 24 24 w bn (by omega) (by decide) (by decide) (by decide)
  have e2 := step (F + 3) _ _ 16 16 w1 b1 (by show S.tl + 1 < 640; omega) (by decide) (by decide) (by decide)
  have e3 := step (F + 2) _ _ 8 8 w2 b2 (by show S.tl + 1 + 1 < 640; omega) (by decide) (by decide) (by decide)
  have e4 := step (F + 1) _ _ 0 0 w3 b3 (by show S.tl + 1 + 1 + 1 < 640; omega) (by decide) (by decide) (by decide)
  rw [show (24 : Int32) + (-8) = 16 by decide] at e1
  rw [show (16 : Int32) + (-8) = 8 by decide] at e2
  rw [show (8 : Int32) + (-8) = 0 by decide] at e3
  rw [show (0 : Int32) + (-8) = -8 by decide] at e4
  refine ⟨_, ?_, w4, ?_⟩
  · simp only [f_X10_come]
    rw [e1, e2, e3, e4]
    simp only [lp_X10_come_3, show (-8 : Int32) < 0 by decide, if_true, Option.bind_some]
  · refine (((((((MF.rf _ h).sI _ ?_).sI _ ?_).sI _ ?_).sI _ ?_).sI _ ?_).sI _ ?_).sI _ ?_ |>.sI _ ?_ <;> (unfold MA; omega)
theorem RM.feed {m F : Nat} {h : e_H} {S : St} (w0 : RM m h S) (hF : 10 < F) (bn : Bn S) (p q r s t : Int32) : Ok (f_X10_feed F h m p q r s t) fun z => z.1 = S.vFeed ∧ RM m z.2 (S.feed p q r s t) ∧ MF (fun a _ => MA m a) h z.2 := by
  have w := w0.thr 0
  have h640 := bn.tl
  have x0 : MF (fun a _ => MA m a) h (e_sI h m 0 0) := (MF.rf _ h).sI _ (by unfold MA; omega)
  have e20 : (nI S.tl + 20 ≤ 640) = (S.tl + 20 ≤ 640) := by
    rw [show (20 : Int32) = nI 20 from rfl, show (640 : Int32) = nI 640 from rfl, p_add, p_le (by omega) (by omega)]
  unfold f_X10_feed St.feed St.vFeed
  refine Ok.gI w0.sh.1 (Ok.eq (by rw [p_fI w.sh.1, w.tl]) ?_)
  refine Ok.ite (fun hc => ?_) (fun hc => ?_) <;> rw [e20] at hc
  · rw [if_pos hc, if_pos hc]
    refine Ok.bind (w.come hF bn (by omega) p) fun h1 ⟨w1, x1⟩ => Ok.is w1.sh.1 ?_
    refine Ok.bind (w1.come hF (bn.put4 p (by omega)) (by rw [put4_tl]; omega) q) fun h2 ⟨w2, x2⟩ => Ok.is w2.sh.1 ?_
    refine Ok.bind (w2.come hF ((bn.put4 p (by omega)).put4 q (by rw [put4_tl]; omega)) (by rw [put4_tl, put4_tl]; omega) r) fun h3 ⟨w3, x3⟩ => Ok.is w3.sh.1 ?_
    refine Ok.bind (w3.come hF (((bn.put4 p (by omega)).put4 q (by rw [put4_tl]; omega)).put4 r (by rw [put4_tl, put4_tl]; omega)) (by rw [put4_tl, put4_tl, put4_tl]; omega) s) fun h4 ⟨w4, x4⟩ => Ok.is w4.sh.1 ?_
    refine Ok.bind (w4.come hF ((((bn.put4 p (by omega)).put4 q (by rw [put4_tl]; omega)).put4 r (by rw [put4_tl, put4_tl]; omega)).put4 s (by rw [put4_tl, put4_tl, put4_tl]; omega)) (by rw [put4_tl, put4_tl, put4_tl, put4_tl]; omega) t) fun h5 ⟨w5, x5⟩ => ?_
    refine Ok.eq (v := nI (S.tl + 20)) (by rw [p_fI w5.sh.1, w5.tl]; rfl) (Ok.ret ⟨rfl, w5, ?_⟩)
    exact ((((x0.tr x1).tr x2).tr x3).tr x4).tr x5
  · rw [if_neg hc, if_neg hc]
    exact Ok.ret ⟨rfl, w, x0⟩
theorem RM.end' {m : Nat} {h : e_H} {S : St} (w0 : RM m h S) (bn : Bn S) (v : Int32) : Ok (f_X10_end h m v) fun z => z.1 = S.vEnd v ∧ RM m z.2 (S.cut v) ∧ MF (fun a _ => MA m a) h z.2 := by
  have w := w0.thr 0
  have h640 := bn.tl
  have x0 : MF (fun a _ => MA m a) h (e_sI h m 0 0) := (MF.rf _ h).sI _ (by unfold MA; omega)
  unfold f_X10_end St.cut St.vEnd
  refine Ok.gI w0.sh.1 ?_
  refine Ok.ite (fun hc => ?_) (fun hc => ?_)
  · have : isI v (S.tl + 1) = false := by unfold isI; simp [hc]
    rw [this]
    exact Ok.ret ⟨rfl, w, x0⟩
  · refine Ok.eq (by rw [p_fI w.sh.1, w.tl]) ?_
    refine Ok.ite (fun hq => ?_) (fun hq => ?_) <;> rw [isI_succ (by omega) hc] at hq
    · rw [if_pos hq, hq]
      obtain ⟨i, rfl, hi⟩ := isI_of hq (by omega)
      refine Ok.gI w.sh.1 (Ok.ret ⟨rfl, ?_, x0.sI _ (by unfold MA; omega)⟩)
      refine w.tape ((MF.rf _ _).sI _ (by omega)) rfl ?_ fun j hj => ?_
      · show e_I (e_sI _ m 2 (nI i)) m 2 = nI (nI i).toNatClampNeg
        rw [e_I_sI, if_pos ⟨rfl, rfl⟩, nI_clamp (by omega)]
      · have hj : j < (nI i).toNatClampNeg := hj
        rw [nI_clamp (by omega)] at hj
        show e_I (e_sI _ m 2 (nI i)) (m + 1) j = _
        rw [e_I_sI, if_neg (by omega)]; exact w.tp j (by omega)
    · rw [if_neg hq]
      have : isI v (S.tl + 1) = false := by cases z : isI v (S.tl + 1); rfl; exact absurd z hq
      rw [this]
      exact Ok.ret ⟨rfl, w, x0⟩
