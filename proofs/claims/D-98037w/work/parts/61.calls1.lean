/-! PURE LAYER 22: the calls alike, form, even -/
noncomputable def theLeast (P : Bd) (how : Nat) : Nat → Int32 := Classical.epsilon (fun l => Least (setC P (ways how) 0) (2 * P.n) l)
theorem theLeast_eq {P : Bd} {how : Nat} {l : Nat → Int32} (h : Least (setC P (ways how) 0) (2 * P.n) l) : ∀ k, k < 2 * P.n → l k = theLeast P how k :=
  h.eq (Classical.epsilon_spec (p := fun l => Least (setC P (ways how) 0) (2 * P.n) l) ⟨l, h⟩) (fun r hr => ⟨r, hr, fun _ _ => rfl⟩) (fun r hr => ⟨r, hr, fun _ _ => rfl⟩)
noncomputable def St.vAlike (S : St) (v i k : Int32) : Int32 := if (S.c.isB v && (S.c.isB i && g_in k 0 2)) = true then pI (alikeP (S.c.vB v) (S.c.vB i) k.toNatClampNeg) else -1
def St.canForm (S : St) (v k : Int32) : Bool := S.c.isB v && g_in k 0 2
def St.vForm (S : St) (v k : Int32) : Int32 := if S.canForm v k = true then nI (2 * (S.c.vB v).n) else -1
noncomputable def St.form (S : St) (v k : Int32) : St := if S.canForm v k = true then (St.mk S.tl S.tp S.fault S.why S.c S.um S.ud (2 * (S.c.vB v).n) (theLeast (S.c.vB v) k.toNatClampNeg) S.xm S.tx S.im) else S
noncomputable def St.vEven (S : St) (v k : Int32) : Int32 := if S.canForm v k = true then (if k = 2 then pI (∃ w, 4 ≤ w ∧ w < 8 ∧ evenP (S.c.vB v) w) else pI (evenP (S.c.vB v) (2 - k.toNatClampNeg))) else -1
/-- how, as a number -/
theorem how_of {k : Int32} (h : g_in k 0 2 = true) : ∃ n : Nat, n < 3 ∧ k = nI n := by
  rcases g_in2 h with rfl | rfl | rfl
  · exact ⟨0, by decide, rfl⟩
  · exact ⟨1, by decide, rfl⟩
  · exact ⟨2, by decide, rfl⟩
def FW (b a j : Nat) : Prop := (a = b ∧ j = 17) ∨ a = b + 18
theorem cR_FW {b : Nat} : ∀ q ∈ cR, ¬ FW b (b + q.1) q.2.1 := by
  have : ∀ q ∈ cR, q.1 ≠ 18 ∧ ¬ (q.1 = 0 ∧ q.2.1 = 17) := by decide
  intro q hq; have := this q hq; unfold FW; omega
theorem RC.toForm {A : Nat → Nat} {b : Nat} {h h' : e_H} {S S' : St} (w : RC A b h S) (x : Fr (FW b) h h') (wf : ∀ a, e_n h' ≤ a → e_k h' a = none) (hS : S' = (St.mk S.tl S.tp S.fault S.why S.c S.um S.ud (S'.fm) (S'.fo) S.xm S.tx S.im)) (fm : e_I h' b 17 = nI S'.fm) (fo : ∀ i, i < S'.fm → e_I h' (b + 18) i = S'.fo i) : RC A b h' S' := by
  have hn := w.sh.n
  have cw := cR_FW (b := b)
  have hk : ∀ a, e_k h a ≠ none → e_k h' a = e_k h a := fun a ha => x.k a (kne w.sh.wf ha)
  rw [hS]
  exact ⟨(w.sh.fr x wf cw (fun j => by unfold FW; omega) (fun j => by unfold FW; omega) (by unfold FW; omega) (by unfold FW; omega) (by unfold FW; omega)),
    ((x.I (b) 1 (by omega) (by unfold FW; omega)).trans w.tl),
    (fun i hi => (x.I (b + 1) i (by omega) (by unfold FW; omega)).trans (w.tp i hi)),
    ((x.I (b) 11 (by omega) (by unfold FW; omega)).trans w.fault),
    ((x.I (b) 12 (by omega) (by unfold FW; omega)).trans w.why),
    (fm),
    (fo),
    ((x.I (b) 19 (by omega) (by unfold FW; omega)).trans w.um),
    ((x.I (b) 21 (by omega) (by unfold FW; omega)).trans w.xm),
    (fun i hi => (x.I (b + 20) i (by omega) (by unfold FW; omega)).trans (w.tx i hi)),
    ((x.I (b) 33 (by omega) (by unfold FW; omega)).trans w.lm),
    (w.ln.ev hk (funext fun j => (x.I (b + 28) j (by omega) (by unfold FW; omega))) (funext fun j => (x.I (b + 29) j (by omega) (by unfold FW; omega)))),
    (w.cl.ev hk (x.R (b + 7) 0 (by omega) (by unfold FW; omega)) (x.R (b + 7) 1 (by omega) (by unfold FW; omega)) (x.I (b + 7) 2 (by omega) (by unfold FW; omega)) (x.I (b + 7) 3 (by omega) (by unfold FW; omega)) (x.I (b + 7) 4 (by omega) (by unfold FW; omega)) (funext fun j => (x.I (b + 8) j (by omega) (by unfold FW; omega))) (funext fun j => (x.I (b + 9) j (by omega) (by unfold FW; omega)))),
    (by
      obtain ⟨rl, d⟩ := w.dyn
      have d' := d.fr w.sh.wf hn x (fun a j z => by
        by_cases q : rl a = 0
        · exact q
        · have := (d.dom a q).2
          unfold FW at z; omega) (by unfold FW; omega) (by unfold FW; omega) (fun j => by unfold FW; omega) (fun j => by unfold FW; omega)
      exact ⟨rl, d'.dom, d'.cur, d'.und, d'.sen, d'.img⟩)⟩
theorem RM.toForm {m : Nat} {h h' : e_H} {S S' : St} (w : RM m h S) (x : MF (fun a j => (a = m ∧ (j = 0 ∨ j = 33)) ∨ a = m + 18) h h') (hS : S' = (St.mk S.tl S.tp S.fault S.why S.c S.um S.ud (S'.fm) (S'.fo) S.xm S.tx S.im)) (fm : e_I h' m 33 = nI S'.fm) (fo : ∀ i, i < S'.fm → e_I h' (m + 18) i = S'.fo i) : RM m h' S' := by
  have FI : ∀ k, 1 ≤ k → k ≠ 18 → e_I h' (m + k) = e_I h (m + k) := fun k h1 h2 => funext fun j => x.I _ _ (by omega)
  have FJ : ∀ k, 1 ≤ k → k ≠ 18 → e_J h' (m + k) = e_J h (m + k) := fun k h1 h2 => funext fun j => x.J _ _ (by omega)
  have F0 : ∀ j, j ≠ 0 → j ≠ 33 → e_I h' m j = e_I h m j := fun j h1 h2 => x.I _ _ (by omega)
  rw [hS]
  refine ⟨w.sh.mf (fun a _ _ => by rw [x.k]) (by rw [x.R]), (F0 2 (by decide) (by decide)).trans w.tl, ?_, ?_, ?_, ?_, ?_, ?_, fm, fo, ?_, ?_, ?_, ?_⟩
  · rw [FI 1 (by decide) (by decide)]; exact w.tp
  · exact (F0 10 (by decide) (by decide)).trans w.fault
  · exact (F0 12 (by decide) (by decide)).trans w.why
  · rw [FI 2 (by decide) (by decide), FJ 7 (by decide) (by decide), FJ 10 (by decide) (by decide)]; exact w.c
  · exact (F0 27 (by decide) (by decide)).trans w.um
  · rw [FI 6 (by decide) (by decide), FJ 9 (by decide) (by decide)]; exact w.ud
  · exact (F0 36 (by decide) (by decide)).trans w.xm
  · rw [FI 19 (by decide) (by decide)]; exact w.tx
  · rw [FI 13 (by decide) (by decide)]; exact w.has
  · rw [FI 5 (by decide) (by decide), FJ 11 (by decide) (by decide), FJ 12 (by decide) (by decide)]; exact w.im
theorem Far.sw {b a : Nat} (h : Far b a) : ∀ j, ¬ SW3 b a j := by intro j z; unfold Far at h; unfold SW3 at z; omega
theorem Bn.form {S : St} (bn : Bn S) (v k : Int32) (h8 : ∀ j, j < S.c.m → (S.c.bd j).n ≤ 8) (m8 : S.c.m ≤ 8) : Bn (S.form v k) := by
  unfold St.form
  split
  · rename_i q
    unfold St.canForm at q
    rw [Bool.and_eq_true] at q
    obtain ⟨i, rfl, hi⟩ := Im.isB_of q.1 m8
    refine ⟨bn.tl, bn.tp, bn.um, ?_, bn.xm⟩
    show 2 * (S.c.vB (nI i)).n ≤ 16
    unfold Im.vB
    rw [nI_clamp (by omega)]
    have := h8 i hi
    omega
  · exact bn
section
variable {A : Nat → Nat} {b F m : Nat} {S : St}
theorem MF.kpC {W : Nat → Nat → Prop} {h h' : e_H} (x : MF W h h') (hW : ∀ a j, W a j → a < b + 33) (hn : b + 62 ≤ e_n h) : Kp b h h' :=
  x.toFr.kp hn (fun a j z => Or.inl (hW a j z)) (by rw [x.n]; omega) (by rw [x.u]; omega)
theorem RC.alike {h : e_H} (w : RC A b h S) (hp : ∀ j, j < S.c.m → 0 < (S.c.bd j).n) (hF : 20 < F) (v i k : Int32) : Ok (f_X1_alike F h b v i k) fun z => z.1 = S.vAlike v i k ∧ RC A b z.2 S ∧ Kp b h z.2 := by
  obtain ⟨B, o, ba, cv⟩ := w.view
  have hm := cv.m8
  unfold f_X1_alike St.vAlike
  simp only [cv.is, cv.isBand, Option.bind_some, f_isIn]
  cases q1 : S.c.isB v with
  | false => exact Ok.ret ⟨rfl, w, Kp.rf b h⟩
  | true =>
    cases q2 : S.c.isB i with
    | false => exact Ok.ret ⟨rfl, w, Kp.rf b h⟩
    | true =>
      cases q3 : g_in k 0 2 with
      | false => exact Ok.ret ⟨rfl, w, Kp.rf b h⟩
      | true =>
        obtain ⟨k1, rfl, h1⟩ := Im.isB_of q1 hm
        obtain ⟨k2, rfl, h2⟩ := Im.isB_of q2 hm
        obtain ⟨n, hn, rfl⟩ := how_of q3
        obtain ⟨a1, xs1, ys1, g1, w1, r1, r2, r3⟩ := cv.bdF h1
        obtain ⟨a2, xs2, ys2, g2, w2, r4, r5, r6⟩ := cv.bdF h2
        simp only [b2i, if_true, show ¬ (1 : Int32) = 0 by decide, if_false, cv.fB, cv.fb, g1, g2, Option.bind_some, Bool.and_self, Im.vB, nI_clamp (show k1 < 2 ^ 31 by omega), nI_clamp (show k2 < 2 ^ 31 by omega), nI_clamp (show n < 2 ^ 31 by omega)]
        refine Ok.b2 (areAlikeC w w1 r1.sw r2.sw r3.sw w2 r4.sw r5.sw r6.sw (hp k1 h1) hF hn) fun u h' ⟨mf, e⟩ => ?_
        have e : u = pI (alikeP (S.c.bd k1) (S.c.bd k2) n) := e
        have mf : MF (SW3 b) h h' := mf
        have w' := w.mfC mf fun q j z => SW3_CW z
        have kp := mf.kpC (b := b) (fun a j z => by unfold SW3 at z; omega) w.sh.n
        by_cases y : alikeP (S.c.bd k1) (S.c.bd k2) n
        · rw [pI_t y] at e ⊢
          subst e
          exact Ok.ret ⟨rfl, w', kp⟩
        · rw [pI_f y] at e ⊢
          subst e
          exact Ok.ret ⟨rfl, w', kp⟩
theorem RM.alike {h : e_H} (w0 : RM m h S) (hf : ∀ j, j < S.c.m → (S.c.bd j).fit) (hF : 20 < F) (v i k : Int32) : Ok (f_X10_alike F h m v i k) fun z => z.1 = S.vAlike v i k ∧ RM m z.2 S ∧ MF (fun a _ => MA m a) h z.2 := by
  have w := w0.thr 0
  have x0 : MF (fun a _ => MA m a) h (e_sI h m 0 0) := (MF.rf _ h).sI _ (by unfold MA; omega)
  have hm := w.view.m8
  unfold f_X10_alike St.vAlike
  refine Ok.gI w0.sh.1 ?_
  simp only [w.view.o.is, w.view.isBand, Option.bind_some, f_isIn10]
  cases q1 : S.c.isB v with
  | false => exact Ok.ret ⟨rfl, w, x0⟩
  | true =>
    cases q2 : S.c.isB i with
    | false => exact Ok.ret ⟨rfl, w, x0⟩
    | true =>
      cases q3 : g_in k 0 2 with
      | false => exact Ok.ret ⟨rfl, w, x0⟩
      | true =>
        obtain ⟨k1, rfl, h1⟩ := Im.isB_of q1 hm
        obtain ⟨k2, rfl, h2⟩ := Im.isB_of q2 hm
        obtain ⟨n, hn, rfl⟩ := how_of q3
        simp only [b2i, if_true, show ¬ (1 : Int32) = 0 by decide, if_false, Bool.and_self, Im.vB, nI_clamp (show k1 < 2 ^ 31 by omega), nI_clamp (show k2 < 2 ^ 31 by omega), nI_clamp (show n < 2 ^ 31 by omega)]
        refine Ok.b2 (areAlikeM w h1 h2 (hf k1 h1) (hf k2 h2) hF hn) fun u h' ⟨mf, e⟩ => ?_
        have e : u = pI (alikeP (S.c.bd k1) (S.c.bd k2) n) := e
        have mf : MF (LW2 m) (e_sI h m 0 0) h' := mf
        have w' := w.mf mf fun a j z => LW2_MW z
        have x' := x0.tr (mf.mono (V := fun a _ => MA m a) fun a j z => by unfold LW2 at z; unfold MA; omega)
        by_cases y : alikeP (S.c.bd k1) (S.c.bd k2) n
        · rw [pI_t y] at e ⊢
          subst e
          exact Ok.ret ⟨rfl, w', x'⟩
        · rw [pI_f y] at e ⊢
          subst e
          exact Ok.ret ⟨rfl, w', x'⟩
theorem RC.form {h : e_H} (w : RC A b h S) (hp : ∀ j, j < S.c.m → 0 < (S.c.bd j).n) (hF : 20 < F) (v k : Int32) : Ok (f_X1_form F h b v k) fun z => z.1 = S.vForm v k ∧ RC A b z.2 (S.form v k) ∧ Kp b h z.2 := by
  obtain ⟨B, o, ba, cv⟩ := w.view
  have hm := cv.m8
  have hn62 := w.sh.n
  unfold f_X1_form St.vForm St.form St.canForm
  simp only [cv.is, cv.isBand, Option.bind_some, f_isIn]
  cases q1 : S.c.isB v with
  | false => exact Ok.ret ⟨rfl, w, Kp.rf b h⟩
  | true =>
    cases q3 : g_in k 0 2 with
    | false => exact Ok.ret ⟨rfl, w, Kp.rf b h⟩
    | true =>
      obtain ⟨k1, rfl, h1⟩ := Im.isB_of q1 hm
      obtain ⟨n, hn, rfl⟩ := how_of q3
      obtain ⟨a1, xs1, ys1, g1, w1, r1, r2, r3⟩ := cv.bdF h1
      have hle := w1.le
      simp only [b2i, if_true, show ¬ (1 : Int32) = 0 by decide, if_false, cv.fB, cv.fb, g1, Option.bind_some, Bool.and_self, Im.vB, nI_clamp (show k1 < 2 ^ 31 by omega), nI_clamp (show n < 2 ^ 31 by omega)]
      refine Ok.bind (settle w w1 (fun j z => r1.sw j (SW_SW3 z)) (fun j z => r2.sw j (SW_SW3 z)) (fun j z => r3.sw j (SW_SW3 z)) (hp k1 h1) hF hn) fun h2 ⟨mf, l⟩ => ?_
      have w2 := w.mfC mf fun q j z => SW_CW z
      obtain ⟨B2, o2, ba2, cv2⟩ := w2.view
      obtain ⟨a2, xs2, ys2, g2, w22, -⟩ := cv2.bdF h1
      refine Ok.eq cv2.fB (Ok.eq cv2.fb (Ok.eq g2 (Ok.eq w22.fn (Ok.gI w2.k0 ?_))))
      rw [i_2i]
      obtain ⟨h3, hh3⟩ : ∃ z, z = e_sI h2 b 17 (nI (2 * (S.c.bd k1).n)) := ⟨_, rfl⟩
      rw [← hh3]
      have k3 : ∀ c, e_k h3 c = e_k h2 c := fun c => by rw [hh3]; rfl
      have R3 : ∀ c j, e_R h3 c j = e_R h2 c j := fun c j => by rw [hh3]; rfl
      have kb : e_k h3 b = some (.inl 0) := by rw [k3]; exact w2.k0
      refine Ok.eq (p_fA kb (by rw [R3]; exact w2.r0 14 16 (by decide))) (Ok.eq (p_fA kb (by rw [R3]; exact w2.r0 16 18 (by decide))) (Ok.eq (v := nI (2 * (S.c.bd k1).n)) (by rw [p_fI kb, hh3, e_I_sI, if_pos ⟨rfl, rfl⟩]) (Ok.eq (p_cpI (by rw [k3]; exact w2.kk 16 (.inr (0, 16)) (by simp [cK])) (by rw [k3]; exact w2.kk 18 (.inr (0, 16)) (by simp [cK])) (by omega) (by omega) (by omega)) ?_)))
      refine Ok.eq (v := nI (2 * (S.c.bd k1).n)) (by rw [p_fI (show e_k (e_cI h3 (b + 16) 0 (b + 18) 0 (2 * (S.c.bd k1).n)) b = _ from kb), e_I_cI, if_neg (by omega), hh3, e_I_sI, if_pos ⟨rfl, rfl⟩]) (Ok.ret ⟨rfl, ?_, ?_⟩)
      · have x2 : Fr (FW b) h2 (e_cI h3 (b + 16) 0 (b + 18) 0 (2 * (S.c.bd k1).n)) := by
          rw [hh3]
          exact ((Fr.rf _ h2).sI _ (by unfold FW; omega)).cI (Or.inr fun j _ _ => by unfold FW; omega)
        refine w2.toForm x2 (by rw [hh3]; exact w2.sh.wf) rfl ?_ fun i hi => ?_
        · show e_I (e_cI h3 (b + 16) 0 (b + 18) 0 (2 * (S.c.bd k1).n)) b 17 = _
          rw [e_I_cI, if_neg (by omega), hh3, e_I_sI, if_pos ⟨rfl, rfl⟩]; rfl
        · have hi : i < 2 * (S.c.bd k1).n := hi
          show e_I (e_cI h3 (b + 16) 0 (b + 18) 0 (2 * (S.c.bd k1).n)) (b + 18) i = _
          rw [e_I_cI, if_pos ⟨rfl, by omega, by omega⟩, show 0 + (i - 0) = i by omega, hh3, e_I_sI, if_neg (by omega)]
          exact theLeast_eq l i hi
      · rw [hh3]
        refine ((mf.toFr.mono (V := fun a j => SW b a j ∨ FW b a j) fun a j z => Or.inl z).sI _ (Or.inr (Or.inr (by unfold FW; omega)))).cI (Or.inr fun j _ _ => Or.inr (by unfold FW; omega)) |>.kp hn62 (fun a j z => ?_) ?_ ?_
        · unfold SW FW at z; omega
        · show e_n h2 ≤ _; rw [mf.n]; omega
        · show e_u h2 ≤ _; rw [mf.u]; omega
theorem RM.form {h : e_H} (w0 : RM m h S) (hf : ∀ j, j < S.c.m → (S.c.bd j).fit) (hF : 20 < F) (v k : Int32) : Ok (f_X10_form F h m v k) fun z => z.1 = S.vForm v k ∧ RM m z.2 (S.form v k) ∧ MF (fun a _ => MA m a) h z.2 := by
  have w := w0.thr 0
  have x0 : MF (fun a _ => MA m a) h (e_sI h m 0 0) := (MF.rf _ h).sI _ (by unfold MA; omega)
  have hm := w.view.m8
  unfold f_X10_form St.vForm St.form St.canForm
  refine Ok.gI w0.sh.1 ?_
  simp only [w.view.o.is, w.view.isBand, Option.bind_some, f_isIn10]
  cases q1 : S.c.isB v with
  | false => exact Ok.ret ⟨rfl, w, x0⟩
  | true =>
    cases q3 : g_in k 0 2 with
    | false => exact Ok.ret ⟨rfl, w, x0⟩
    | true =>
      obtain ⟨k1, rfl, h1⟩ := Im.isB_of q1 hm
      obtain ⟨n, hn, rfl⟩ := how_of q3
      have hle := (w.view.bs k1 h1).le
      simp only [b2i, if_true, show ¬ (1 : Int32) = 0 by decide, if_false, Bool.and_self, Im.vB, nI_clamp (show k1 < 2 ^ 31 by omega), nI_clamp (show n < 2 ^ 31 by omega)]
      refine Ok.bind (layForm w h1 (hf k1 h1) hF hn) fun h2 ⟨mf, l, s⟩ => ?_
      have w2 := w.mf mf fun a j z => LW_MW z
      have x2 := x0.tr (mf.mono (V := fun a _ => MA m a) fun a j z => by unfold LW at z; unfold MA; omega)
      refine Ok.is w2.sh.1 (Ok.eq (w2.view.o.fn (w2.view.bs k1 h1)) (Ok.gI w2.sh.1 ?_))
      rw [i_2i]
      obtain ⟨N, hN⟩ : ∃ N, N = 2 * (S.c.bd k1).n := ⟨_, rfl⟩
      rw [← hN]
      have y3 : MF (fun a j => (a = m ∧ (j = 0 ∨ j = 33)) ∨ a = m + 18) h2 (e_sI h2 m 33 (nI N)) := (MF.rf _ h2).sI _ (by omega)
      refine Ok.bind (R := fun h4 => MF (fun a j => (a = m ∧ (j = 0 ∨ j = 33)) ∨ a = m + 18) h2 h4 ∧ e_I h4 m 33 = nI N ∧ ∀ j, j < N → e_I h4 (m + 18) j = e_I h2 (m + 16) j) ?_ fun h4 ⟨mf4, e4, r4⟩ => ?_
      · refine Ok.loopC2 (lp := lp_X10_form_43 F m) (fun i x h4 => x = nI i ∧ MF (fun a j => (a = m ∧ (j = 0 ∨ j = 33)) ∨ a = m + 18) h2 h4 ∧ e_I h4 m 33 = nI N ∧ ∀ j, j < i → e_I h4 (m + 18) j = e_I h2 (m + 16) j) N (fun i x h4 f hi ⟨e, mf4, e4, r4⟩ nx => ?_) (fun x h4 f ⟨e, mf4, e4, r4⟩ => ?_) (by omega) ⟨rfl, y3, by rw [e_I_sI, if_pos ⟨rfl, rfl⟩], fun j hj => by omega⟩
        · subst e
          have k4 : ∀ c, e_k h4 c = e_k h2 c := fun c => by rw [mf4.k]
          have km : e_k h4 m = some (.inl 8) := by rw [k4]; exact w2.sh.1
          have hle2 : (nI N ≤ nI i) = False := by rw [p_le (by omega) (by omega)]; simp; omega
          have f32 : e_fA h4 m 8 32 = some (m + 1 + 17) := p_fA km (by rw [mf4.R]; exact (w2.sh.2 17 (32, 0, 16) rfl).1)
          have f30 : e_fA h4 m 8 30 = some (m + 1 + 15) := p_fA km (by rw [mf4.R]; exact (w2.sh.2 15 (30, 0, 16) rfl).1)
          have r0 : e_aI h4 (m + 1 + 15) 0 (nI i) = some (e_I h2 (m + 16) i) := by rw [p_aI (by rw [k4]; exact w2.kk 15 30 0 16 rfl) (by omega) (by decide), mf4.I _ _ (by omega)]
          have kw := p_wI' (h := h4) (by rw [k4]; exact w2.kk 17 32 0 16 rfl) (rfl : nI i = nI i) (by omega) (by decide) (e_I h2 (m + 16) i)
          simp only [lp_X10_form_43, p_fI km, e4, hle2, if_false, f32, f30, r0, kw, Option.bind_some, ← nI_succ]
          refine nx _ _ ⟨rfl, mf4.sI _ (by omega), by rw [e_I_sI, if_neg (by omega)]; exact e4, fun j hj => ?_⟩
          rw [e_I_sI]
          by_cases z : j = i
          · rw [if_pos ⟨by omega, z⟩, z]
          · rw [if_neg (fun y => z y.2)]; exact r4 j (by omega)
        · subst e
          have km : e_k h4 m = some (.inl 8) := by rw [mf4.k]; exact w2.sh.1
          simp only [lp_X10_form_43, p_fI km, e4, Option.bind_some, Int32.le_refl, if_true]
          exact Ok.ret ⟨mf4, e4, r4⟩
      · refine Ok.eq (v := nI N) (by rw [p_fI (by rw [mf4.k]; exact w2.sh.1), e4]) (Ok.ret ⟨rfl, ?_, x2.tr (mf4.mono fun a j z => by unfold MA; omega)⟩)
        refine w2.toForm mf4 rfl e4 fun i hi => ?_
        have hi : i < N := hi
        refine (r4 i hi).trans ?_
        exact theLeast_eq l i (by omega)
end
