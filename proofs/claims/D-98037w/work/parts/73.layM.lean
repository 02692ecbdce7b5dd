/-! PURE LAYER 34: mended and lay, the model's side -/
section
variable {m F : Nat} {S : St}
theorem layCalls {h : e_H} (w : RM m h S) (h0 : 0 < S.c.c.n) (hF : 20 < F) {slot : Nat} (hs : slot ≤ 8) {k0 dx dy : Int32} {k : Nat} (hk : ∀ j, j < S.c.c.n → (nI j = k0 ↔ j = k)) (hdx : k < S.c.c.n → dx = S.c.c.dx k - sumTo S.c.c.dx S.c.c.n ∧ dy = S.c.c.dy k - sumTo S.c.c.dy S.c.c.n) :
    Ok (f_X10_layCalls F h m (nI slot) k0 dx dy) fun h' => MF (fun a j => a = m + 3 ∧ 105 + 17 * slot ≤ j ∧ j < 105 + 17 * slot + 17) h h' ∧ MBd (e_I h' (m + 3)) slot (callB S.c.c k) := by
  have c := w.c.cl
  have hle := c.le
  have k3 := w.kk 2 16 0 258 rfl
  have sx : ∀ j, j < S.c.c.n → stepX S.c.c k j = if j = k then S.c.c.dx k - sumTo S.c.c.dx S.c.c.n else S.c.c.dx j := fun j _ => by
    unfold stepX
    by_cases q : j = k
    · rw [if_pos q, if_pos q, q]
    · rw [if_neg q, if_neg q, Int32.sub_zero]
  have sy : ∀ j, j < S.c.c.n → stepY S.c.c k j = if j = k then S.c.c.dy k - sumTo S.c.c.dy S.c.c.n else S.c.c.dy j := fun j _ => by
    unfold stepY
    by_cases q : j = k
    · rw [if_pos q, if_pos q, q]
    · rw [if_neg q, if_neg q, Int32.sub_zero]
  unfold f_X10_layCalls
  refine Ok.sm ?_
  rw [i_rn]
  have r242 : ∀ {g : e_H}, RM m g S → e_aI g (m + 2) 0 242 = some (nI S.c.c.n) := fun v => by rw [show (242 : Int32) = nI 242 from rfl, v.rdN (by decide), v.c.cl.n]
  refine Ok.eq (w.f0 2 16 0 258 rfl) (Ok.eq (w.f0 1 15 0 512 rfl) (Ok.eq (r242 w) (Ok.eq (p_wI k3 (by omega) (by decide) _) ?_)))
  obtain ⟨h1, hh1⟩ : ∃ z, z = e_sI h (m + 1 + 2) (105 + 17 * slot) (nI S.c.c.n) := ⟨_, rfl⟩
  rw [← hh1]
  have mf1 : MF (fun a j => a = m + 3 ∧ 105 + 17 * slot ≤ j ∧ j < 105 + 17 * slot + 17) h h1 := by rw [hh1]; exact (MF.rf _ h).sI _ (by omega)
  have upW : ∀ {a j : Nat}, a = m + 3 ∧ 105 + 17 * slot ≤ j ∧ j < 105 + 17 * slot + 17 → MW m a j := fun z => by unfold MW; omega
  have w1 := w.mf mf1 fun a j z => upW z
  refine Ok.eq (w1.f0 1 15 0 512 rfl) (Ok.eq (v := S.c.c.x) (by rw [show (243 : Int32) = nI 243 from rfl, w1.rdN (by decide), w1.c.cl.x h0]) (Ok.eq (w1.f0 1 15 0 512 rfl) (Ok.eq (v := S.c.c.y) (by rw [show (244 : Int32) = nI 244 from rfl, w1.rdN (by decide), w1.c.cl.y h0]) ?_)))
  rw [← i_rn]
  refine Ok.bind (R := fun h' => MF (fun a j => a = m + 3 ∧ 105 + 17 * slot ≤ j ∧ j < 105 + 17 * slot + 17) h h' ∧ e_I h' (m + 3) (105 + 17 * slot) = nI S.c.c.n ∧ ∀ j, j < S.c.c.n → e_I h' (m + 3) (105 + 17 * slot + 1 + 2 * j) = (callB S.c.c k).x j ∧ e_I h' (m + 3) (105 + 17 * slot + 2 + 2 * j) = (callB S.c.c k).y j) ?_ fun h' ⟨r1, r2, r3⟩ => Ok.ret ⟨r1, ⟨r2, h0, hle, fun i hi => (r3 i hi).1, fun i hi => (r3 i hi).2⟩⟩
  refine Ok.loopC4 (lp := lp_X10_layCalls_47 F m k0 dx dy (105 + 17 * nI slot)) (fun i px py x h' => px = (callB S.c.c k).x i ∧ py = (callB S.c.c k).y i ∧ x = nI i ∧ MF (fun a j => a = m + 3 ∧ 105 + 17 * slot ≤ j ∧ j < 105 + 17 * slot + 17) h h' ∧ e_I h' (m + 3) (105 + 17 * slot) = nI S.c.c.n ∧ ∀ j, j < i → e_I h' (m + 3) (105 + 17 * slot + 1 + 2 * j) = (callB S.c.c k).x j ∧ e_I h' (m + 3) (105 + 17 * slot + 2 + 2 * j) = (callB S.c.c k).y j) S.c.c.n (fun i px py x h' f hi ⟨ex, ey, e, mf, rn, r⟩ nx => ?_) (fun px py x h' f ⟨ex, ey, e, mf, rn, r⟩ => ?_) (by omega) ⟨by rw [callB_x]; simp [sumTo], by rw [callB_y]; simp [sumTo], rfl, mf1, by rw [hh1, e_I_sI, if_pos ⟨by omega, rfl⟩], fun j hj => by omega⟩
  · subst e
    have w' := w.mf mf fun a j z => upW z
    have hle2 : (nI S.c.c.n ≤ nI i) = False := by rw [p_le (by omega) (by omega)]; simp; omega
    have kw := p_wI' (w'.kk 2 16 0 258 rfl) (i_rx slot i) (by omega) (by decide) px
    obtain ⟨h2, hh2⟩ : ∃ z, z = e_sI h' (m + 1 + 2) (105 + 17 * slot + 1 + 2 * i) px := ⟨_, rfl⟩
    rw [← hh2] at kw
    have mf2 : MF (fun a j => a = m + 3 ∧ 105 + 17 * slot ≤ j ∧ j < 105 + 17 * slot + 17) h h2 := by rw [hh2]; exact mf.sI _ (by omega)
    have w2 := w.mf mf2 fun a j z => upW z
    have kw2 := p_wI' (w2.kk 2 16 0 258 rfl) (i_ry slot i) (by omega) (by decide) py
    obtain ⟨h3, hh3⟩ : ∃ z, z = e_sI h2 (m + 1 + 2) (105 + 17 * slot + 2 + 2 * i) py := ⟨_, rfl⟩
    rw [← hh3] at kw2
    have mf3 : MF (fun a j => a = m + 3 ∧ 105 + 17 * slot ≤ j ∧ j < 105 + 17 * slot + 17) h h3 := by rw [hh3]; exact mf2.sI _ (by omega)
    have w3 := w.mf mf3 fun a j z => upW z
    have ax : e_aI h3 (m + 2) 0 (245 + 2 * nI i) = some (S.c.c.dx i) := by
      rw [show (245 : Int32) + 2 * nI i = nI (245 + 2 * i) by rw [show (245 : Int32) = nI 245 from rfl, show (2 : Int32) = nI 2 from rfl, p_mul, p_add], w3.rdN (by omega), w3.c.cl.dx i hi]
    have ay : e_aI h3 (m + 2) 0 (246 + 2 * nI i) = some (S.c.c.dy i) := by
      rw [show (246 : Int32) + 2 * nI i = nI (246 + 2 * i) by rw [show (246 : Int32) = nI 246 from rfl, show (2 : Int32) = nI 2 from rfl, p_mul, p_add], w3.rdN (by omega), w3.c.cl.dy i hi]
    have cx : (if nI i = k0 then some dx else Option.bind (e_fA h3 m 8 15) (fun x105 => Option.bind (e_aI h3 x105 0 (245 + 2 * nI i)) (fun x116 => some x116))) = some (stepX S.c.c k i) := by
      rw [sx i hi]
      by_cases q : i = k
      · rw [if_pos ((hk i hi).mpr q), if_pos q, (hdx (by omega)).1]
      · rw [if_neg (fun z => q ((hk i hi).mp z)), if_neg q]
        simp only [w3.f0 1 15 0 512 rfl, show m + 1 + 1 = m + 2 from rfl, ax, Option.bind_some]
    have cy : (if nI i = k0 then some dy else Option.bind (e_fA h3 m 8 15) (fun x134 => Option.bind (e_aI h3 x134 0 (246 + 2 * nI i)) (fun x145 => some x145))) = some (stepY S.c.c k i) := by
      rw [sy i hi]
      by_cases q : i = k
      · rw [if_pos ((hk i hi).mpr q), if_pos q, (hdx (by omega)).2]
      · rw [if_neg (fun z => q ((hk i hi).mp z)), if_neg q]
        simp only [w3.f0 1 15 0 512 rfl, show m + 1 + 1 = m + 2 from rfl, ay, Option.bind_some]
    unfold lp_X10_layCalls_47
    refine Ok.eq (w'.f0 1 15 0 512 rfl) (Ok.eq (r242 w') ?_)
    rw [if_neg (by rw [hle2]; exact id)]
    refine Ok.eq (w'.f0 2 16 0 258 rfl) (Ok.eq kw (Ok.eq (w2.f0 2 16 0 258 rfl) (Ok.eq kw2 (Ok.eq cx (Ok.sm (Ok.eq cy (Ok.sm (Ok.sm ?_))))))))
    rw [← nI_succ]
    refine nx _ _ _ _ ⟨?_, ?_, rfl, mf3, ?_, fun j hj => ?_⟩
    · rw [ex]; simp only [callB_x, sumTo, Int32.add_assoc]
    · rw [ey]; simp only [callB_y, sumTo, Int32.add_assoc]
    · rw [hh3, e_I_sI, if_neg (by omega), hh2, e_I_sI, if_neg (by omega)]; exact rn
    · by_cases z : j = i
      · subst z
        constructor
        · rw [hh3, e_I_sI, if_neg (by omega), hh2, e_I_sI, if_pos ⟨by omega, rfl⟩, ex]
        · rw [hh3, e_I_sI, if_pos ⟨by omega, rfl⟩, ey]
      · obtain ⟨q1, q2⟩ := r j (by omega)
        constructor
        · rw [hh3, e_I_sI, if_neg (by omega), hh2, e_I_sI, if_neg (by omega)]; exact q1
        · rw [hh3, e_I_sI, if_neg (by omega), hh2, e_I_sI, if_neg (by omega)]; exact q2
  · subst e
    have w' := w.mf mf fun a j z => upW z
    unfold lp_X10_layCalls_47
    refine Ok.eq (w'.f0 1 15 0 512 rfl) (Ok.eq (r242 w') ?_)
    rw [if_pos (Int32.le_refl _)]
    exact Ok.ret ⟨mf, rn, r⟩
theorem MCl.sumX {h : e_H} {c : Cl} (w : MCl (e_I h (m + 2)) c) (o : MO h m (m + 2)) (k : e_k h (m + 2) = some (.inr (0, 512))) (hF : 9 < F) : f_X10_sum F h m 0 = some (sumTo c.dx c.n) := by
  have hle := w.le
  have e3 : ∀ i, i < c.n → (nI c.n ≤ nI i) = False := fun i hi => by rw [p_le (by omega) (by omega)]; simp; omega
  have rd : ∀ j, j < 512 → e_aI h (m + 2) 0 (nI j) = some (e_I h (m + 2) j) := fun j hj => p_aI k hj (by decide)
  have r2 : e_aI h (m + 2) 0 242 = some (nI c.n) := by rw [show (242 : Int32) = nI 242 from rfl, rd 242 (by decide), w.n]
  have hl : lp_X10_sum_4 F h m 0 F 0 0 = some (sumTo c.dx c.n) := by
    refine lp_sumI (fun i v f hi => ?_) (fun v f => ?_) (by omega)
    · have : (245 : Int32) + 2 * nI i + 0 = nI (245 + 2 * i) := by
        rw [Int32.add_zero, show (245 : Int32) = nI 245 from rfl, show (2 : Int32) = nI 2 from rfl, p_mul, p_add]
      simp only [lp_X10_sum_4, o.now, r2, e3 i hi, this, rd (245 + 2 * i) (by omega), w.dx i hi, Option.bind_some, if_false, ← nI_succ]
    · simp only [lp_X10_sum_4, o.now, r2, Option.bind_some, Int32.le_refl, if_true]
  simp only [f_X10_sum, hl, Option.bind_some]
theorem MCl.sumY {h : e_H} {c : Cl} (w : MCl (e_I h (m + 2)) c) (o : MO h m (m + 2)) (k : e_k h (m + 2) = some (.inr (0, 512))) (hF : 9 < F) : f_X10_sum F h m 1 = some (sumTo c.dy c.n) := by
  have hle := w.le
  have e3 : ∀ i, i < c.n → (nI c.n ≤ nI i) = False := fun i hi => by rw [p_le (by omega) (by omega)]; simp; omega
  have rd : ∀ j, j < 512 → e_aI h (m + 2) 0 (nI j) = some (e_I h (m + 2) j) := fun j hj => p_aI k hj (by decide)
  have r2 : e_aI h (m + 2) 0 242 = some (nI c.n) := by rw [show (242 : Int32) = nI 242 from rfl, rd 242 (by decide), w.n]
  have hl : lp_X10_sum_4 F h m 1 F 0 0 = some (sumTo c.dy c.n) := by
    refine lp_sumI (fun i v f hi => ?_) (fun v f => ?_) (by omega)
    · have : (245 : Int32) + 2 * nI i + 1 = nI (246 + 2 * i) := by
        rw [show (245 : Int32) = nI 245 from rfl, show (2 : Int32) = nI 2 from rfl, show (1 : Int32) = nI 1 from rfl, p_mul, p_add, p_add]
        congr 1; omega
      simp only [lp_X10_sum_4, o.now, r2, e3 i hi, this, rd (246 + 2 * i) (by omega), w.dy i hi, Option.bind_some, if_false, ← nI_succ]
    · simp only [lp_X10_sum_4, o.now, r2, Option.bind_some, Int32.le_refl, if_true]
  simp only [f_X10_sum, hl, Option.bind_some]
theorem RM.mended {h : e_H} (w0 : RM m h S) (hF : 1000 < F) (k : Int32) : Ok (f_X10_mended F h m k) fun z => z.1 = S.vMended k ∧ RM m z.2 S ∧ MF (fun a _ => MA m a) h z.2 := by
  have w := w0.thr 0
  have x0 : MF (fun a _ => MA m a) h (e_sI h m 0 0) := (MF.rf _ h).sI _ (by unfold MA; omega)
  have hle := w.c.cl.le
  have hw10 := w.view.rh.w10
  have hh10 := w.view.rh.h10
  unfold f_X10_mended St.vMended
  have r241 : e_aI (e_sI h m 0 0) (m + 2) 0 241 = some (b2i (decide (0 < S.c.c.n))) := by rw [show (241 : Int32) = nI 241 from rfl, w.rdN (by decide), w.c.cl.has]
  refine Ok.gI w0.sh.1 (Ok.eq w.view.o.now (Ok.eq r241 ?_))
  by_cases q : S.c.c.n = 0
  · rw [if_pos q, decide_eq_false (show ¬ 0 < S.c.c.n by omega)]
    exact Ok.ret ⟨rfl, w, x0⟩
  · rw [if_neg q, decide_eq_true (show 0 < S.c.c.n by omega), if_neg (show ¬ b2i true = 0 by decide)]
    refine Ok.eq (w.c.cl.doClose w.view.o w.now512 (show 9 < F by omega)) ?_
    cases hc : S.c.c.closed with
    | true => exact Ok.ret ⟨rfl, w, x0⟩
    | false =>
      rw [if_pos (show b2i false = 0 from rfl), if_neg (show ¬ false = true by decide)]
      obtain ⟨p, hp⟩ : ∃ p : Nat → Bool, p = fun i => S.c.d.sound (callB S.c.c i) := ⟨_, rfl⟩
      rw [← hp]
      refine Ok.bE (R := fun z => (∀ r, z = .error r → r.1 = pick p nI S.c.c.n k ∧ RM m r.2 S ∧ MF (fun a _ => MA m a) h r.2) ∧ ∀ r, z = .ok r → r.1 = cnt p S.c.c.n ∧ RM m r.2 S ∧ MF (fun a _ => MA m a) h r.2 ∧ ∀ j, j < S.c.c.n → ¬ (p j = true ∧ cnt p j = k)) ?_ (fun r hr => hr.1 r rfl) (fun r hr => ?_)
      · refine Ok.loopC3 (lp := lp_X10_mended_29 F m k) (fun i u x h' => u = cnt p i ∧ x = nI i ∧ RM m h' S ∧ MF (fun a _ => MA m a) h h' ∧ ∀ j, j < i → ¬ (p j = true ∧ cnt p j = k)) S.c.c.n (fun i u x h' f hi ⟨eu, e, w', x', no⟩ nx => ?_) (fun u x h' f ⟨eu, e, w', x', no⟩ => ?_) (by omega) ⟨rfl, rfl, w, x0, fun j hj => by omega⟩
        · subst e eu
          have hle2 : (nI S.c.c.n ≤ nI i) = False := by rw [p_le (by omega) (by omega)]; simp; omega
          have r242 : e_aI h' (m + 2) 0 242 = some (nI S.c.c.n) := by rw [show (242 : Int32) = nI 242 from rfl, w'.rdN (by decide), w'.c.cl.n]
          have ax : e_aI h' (m + 2) 0 (245 + 2 * nI i) = some (S.c.c.dx i) := by
            rw [show (245 : Int32) + 2 * nI i = nI (245 + 2 * i) by rw [show (245 : Int32) = nI 245 from rfl, show (2 : Int32) = nI 2 from rfl, p_mul, p_add], w'.rdN (by omega), w'.c.cl.dx i hi]
          have ay : e_aI h' (m + 2) 0 (246 + 2 * nI i) = some (S.c.c.dy i) := by
            rw [show (246 : Int32) + 2 * nI i = nI (246 + 2 * i) by rw [show (246 : Int32) = nI 246 from rfl, show (2 : Int32) = nI 2 from rfl, p_mul, p_add], w'.rdN (by omega), w'.c.cl.dy i hi]
          obtain ⟨dx, hdx⟩ : ∃ z, z = S.c.c.dx i - sumTo S.c.c.dx S.c.c.n := ⟨_, rfl⟩
          obtain ⟨dy, hdy⟩ : ∃ z, z = S.c.c.dy i - sumTo S.c.c.dy S.c.c.n := ⟨_, rfl⟩
          have stay : p i = false → ∀ h2, RM m h2 S → MF (fun a _ => MA m a) h h2 → Ok (lp_X10_mended_29 F m k f (cnt p i) (nI (i + 1)) h2) fun z => (∀ r, z = .error r → r.1 = pick p nI S.c.c.n k ∧ RM m r.2 S ∧ MF (fun a _ => MA m a) h r.2) ∧ ∀ r, z = .ok r → r.1 = cnt p S.c.c.n ∧ RM m r.2 S ∧ MF (fun a _ => MA m a) h r.2 ∧ ∀ j, j < S.c.c.n → ¬ (p j = true ∧ cnt p j = k) := by
            intro hpf h2 w2 x2
            refine nx _ _ _ ⟨by rw [cnt_s, hpf]; rfl, rfl, w2, x2, fun j hj => ?_⟩
            by_cases z : j = i
            · rw [z, hpf]; exact fun t => by cases t.1
            · exact no j (by omega)
          unfold lp_X10_mended_29
          refine Ok.eq w'.view.o.now (Ok.eq r242 ?_)
          rw [if_neg (by rw [hle2]; exact id)]
          refine Ok.eq w'.view.o.now (Ok.eq ax (Ok.eq (w'.c.cl.sumX w'.view.o w'.now512 (show 9 < F by omega)) (Ok.sm (Ok.eq w'.view.o.now (Ok.eq ay (Ok.eq (w'.c.cl.sumY w'.view.o w'.now512 (show 9 < F by omega)) (Ok.sm (Ok.eq (f_isIn10 _ _ _) ?_))))))))
          rw [← hdx, ← hdy]
          cases g1 : g_in dx (-9) 9 with
          | false =>
            have hpf : p i = false := by
              have := far_step hw10 hh10 S.c.c hle hi (by rw [← hdx, g1]; rfl)
              rw [hp]; unfold Hd.sound; simp only; rw [this]; rfl
            rw [if_pos (show b2i false = 0 from rfl)]
            simp only [bE_o, u2_s, Option.bind_some, ← nI_succ]
            exact stay hpf h' w' x'
          | true =>
            rw [if_neg (show ¬ b2i true = 0 by decide)]
            rw [f_isIn10]
            simp only [Option.bind_some]
            cases g2 : g_in dy (-9) 9 with
            | false =>
              have hpf : p i = false := by
                have := far_step hw10 hh10 S.c.c hle hi (by rw [← hdx, ← hdy, g1, g2]; rfl)
                rw [hp]; unfold Hd.sound; simp only; rw [this]; rfl
              rw [if_pos (show b2i false = 0 from rfl)]
              simp only [bE_o, u2_s, ← nI_succ]
              exact stay hpf h' w' x'
            | true =>
              rw [if_neg (show ¬ b2i true = 0 by decide)]
              obtain ⟨h1, e1, mf1, r1⟩ := layRead w' hF
              have w1 := w'.mf mf1 fun a j z => by have := z.1; unfold MW; omega
              obtain ⟨h2, e2, mf2, gb⟩ := layCalls w1 (by omega) (show 20 < F by omega) (slot := 8) (Nat.le_refl _) (k0 := nI i) (dx := dx) (dy := dy) (k := i) (fun j hj => by rw [p_eq (by omega) (by omega)]) (fun _ => ⟨hdx, hdy⟩)
              have e2 : f_X10_layCalls F h1 m 8 (nI i) dx dy = some h2 := e2
              have w2 := w1.mf mf2 fun a j z => by have := z.1; unfold MW; omega
              have x2 := (x'.tr (mf1.mono (V := fun a _ => MA m a) fun a j z => by have := z.1; unfold MA; omega)).tr (mf2.mono fun a j z => by have := z.1; unfold MA; omega)
              have hd : MHd (e_I h2 (m + 3)) S.c.d := w'.c.row.hd.congr fun j hj => by rw [mf2.I _ _ (by omega), r1 _ (by omega)]
              have kr := w2.kk 2 16 0 258 rfl
              have rb : RB h2 (m + 3) 258 8 (callB S.c.c i) := gb.rb kr (by decide) (by decide) (Nat.le_refl _)
              have rh : RH h2 (m + 3) 258 S.c.d := ⟨kr, by decide, by decide, hd.w10, hd.h10, hd.w, hd.hh, hd.bell, hd.outs, hd.out⟩
              have wr := rb.wrong (m := 0) (bd := S.c.bd) rh (show 20 < F by omega) (by omega) (fun o ho => by omega)
              have wr : f_X10_wrong F h2 (m + 3) 8 0 = some (S.c.d.wrong 0 S.c.bd 8 (callB S.c.c i)) := wr
              have hsd := Hd.sound_w S.c.d S.c.bd 8 (callB S.c.c i)
              have hpi : S.c.d.sound (callB S.c.c i) = p i := by rw [hp]
              rw [hpi] at hsd
              rw [e1]
              simp only [Option.bind_some, p_is w1.sh.1, e2, w2.f0 2 16 0 258 rfl, show m + 1 + 2 = m + 3 from rfl, wr]
              by_cases y : p i = true
              · have y0 : S.c.d.wrong 0 S.c.bd 8 (callB S.c.c i) = 0 := by rw [hsd]; exact y
                rw [if_pos y0]
                by_cases y2 : cnt p i = k
                · rw [if_pos y2]
                  simp only [bE_e]
                  refine Ok.ret ⟨fun r hr => ?_, fun r hr => by cases hr⟩
                  cases hr
                  exact ⟨(pick_at (r := nI) hi y y2 no).symm, w2, x2⟩
                · rw [if_neg y2]
                  simp only [bE_o, u2_s, ← nI_succ]
                  refine nx _ _ _ ⟨by rw [cnt_s, if_pos y], rfl, w2, x2, fun j hj => ?_⟩
                  by_cases z : j = i
                  · rw [z]; exact fun t => y2 t.2
                  · exact no j (by omega)
              · have y0 : ¬ S.c.d.wrong 0 S.c.bd 8 (callB S.c.c i) = 0 := by rw [hsd]; exact y
                rw [if_neg y0]
                simp only [bE_o, u2_s, ← nI_succ]
                exact stay (by cases z : p i; rfl; exact absurd z y) h2 w2 x2
        · subst e eu
          have r242 : e_aI h' (m + 2) 0 242 = some (nI S.c.c.n) := by rw [show (242 : Int32) = nI 242 from rfl, w'.rdN (by decide), w'.c.cl.n]
          unfold lp_X10_mended_29
          refine Ok.eq w'.view.o.now (Ok.eq r242 ?_)
          rw [if_pos (Int32.le_refl _)]
          refine Ok.ret ⟨fun r hr => (by cases hr), fun r hr => ?_⟩
          cases hr
          exact ⟨rfl, w', x', no⟩
      · obtain ⟨r1, r2, r3, r4⟩ := hr.2 r rfl
        obtain ⟨u, h'⟩ := r
        simp only at r1 r2 r3
        simp only [u2_s]
        rw [pick_no r4]
        by_cases z : k = -1
        · rw [if_pos z, if_pos z]; exact Ok.ret ⟨r1, r2, r3⟩
        · rw [if_neg z, if_neg z]; exact Ok.ret ⟨rfl, r2, r3⟩
end
