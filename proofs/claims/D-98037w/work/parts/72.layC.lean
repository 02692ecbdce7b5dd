/-! PURE LAYER 33: mended and lay, the component's side -/
def St.vMended (S : St) (k : Int32) : Int32 := if S.c.c.n = 0 then -1 else if S.c.c.closed = true then -1 else pick (fun i => S.c.d.sound (callB S.c.c i)) nI S.c.c.n k
/-- what lay answers when the calls close -/
def St.wLay (S : St) : Int32 := S.c.d.wrong S.c.m S.c.bd S.c.m (callB S.c.c S.c.c.n)
def St.canLay (S : St) : Bool := decide (0 < S.c.c.n) && (S.c.c.closed && (decide (S.wLay = 0) && decide (S.c.m < 8)))
def St.vLay (S : St) : Int32 := if S.c.c.n = 0 then -1 else if S.c.c.closed = true then (if S.wLay = 0 then (if S.c.m = 8 then 7 else 0) else S.wLay) else 6
def St.lay (S : St) : St := if S.canLay = true then (St.mk S.keep.tl S.keep.tp S.keep.fault S.keep.why ((Im.mk S.c.d (S.c.m + 1) (putB S.c.bd S.c.m (callB S.c.c S.c.c.n)) S.c.c S.c.lm S.c.la S.c.lb S.c.sn)) S.keep.um S.keep.ud S.keep.fm S.keep.fo S.keep.xm S.keep.tx S.keep.im) else S
theorem i_leneg (k : Int32) : (-1 ≤ k) ∨ ¬ (-1 ≤ k) := Classical.em _
section
variable {A : Nat → Nat} {b F : Nat} {S : St}
theorem soundC {h : e_H} (w : RC A b h S) {a xs ys : Nat} {P : Bd} (g : IsBd h a xs ys P) (hF : 20 < F) : f_X1_isSound F h b a = some (b2i (S.c.d.sound P)) := by
  obtain ⟨B, o, ba, cv⟩ := w.view
  have h8 := g.le
  have l1 : lp_X1_isSound_2 F h b a F 0 = some (if S.c.d.wr1 P = true then .error 0 else .ok ()) := by
    refine lp_any (lp := lp_X1_isSound_2 F h b a) nI _ P.n _ _ (fun i hi f => ?_) (fun f => ?_) (by omega)
    · simp only [lp_X1_isSound_2, g.fn, g.nle hi, if_false, cv.fB, g.fx, g.fy, g.ax hi, g.ay hi, cv.isd, cv.bh.isPeg, Option.bind_some, ← nI_succ, b2i_0]
      cases S.c.d.peg (P.x i) (P.y i) <;> rfl
    · simp only [lp_X1_isSound_2, g.fn, Option.bind_some, Int32.le_refl, if_true]
  simp only [f_X1_isSound, l1, g.is, g.why (show 9 < F by omega), Hd.sound]
  cases S.c.d.wr1 P with
  | true => rfl
  | false =>
    simp only [Bool.false_eq_true, if_false, bE_o, Option.bind_some, Bool.not_false, Bool.true_and]
    by_cases q : P.why = 0 <;> simp [q, b2i]
theorem RC.mended {h : e_H} (w : RC A b h S) (hF : 20 < F) (k : Int32) : Ok (f_X1_mended F h b k) fun z => z.1 = S.vMended k ∧ RC A b z.2 S ∧ Kp b h z.2 := by
  have hn := w.sh.n
  have hle := w.cl.le
  unfold f_X1_mended St.vMended
  refine Ok.eq (w.f0 7 7 (by decide)) (Ok.eq (v := nI S.c.c.n) (by rw [p_fI w.cl.k, w.cl.n]) ?_)
  by_cases q : S.c.c.n = 0
  · rw [if_pos (show nI S.c.c.n = 0 by rw [q]; rfl), if_pos q]
    exact Ok.ret ⟨rfl, w, Kp.rf b h⟩
  · rw [if_neg (show ¬ nI S.c.c.n = 0 by rw [p_e0 (by omega)]; exact q), if_neg q]
    refine Ok.eq (w.f0 7 7 (by decide)) (Ok.is w.cl.k (Ok.eq (w.cl.isClosed (show 9 < F by omega)) ?_))
    cases hc : S.c.c.closed with
    | true => exact Ok.ret ⟨rfl, w, Kp.rf b h⟩
    | false =>
      rw [if_pos (show b2i false = 0 from rfl), if_neg (show ¬ false = true by decide)]
      by_cases hk : -1 ≤ k
      · rw [if_pos hk]
        obtain ⟨p, hp⟩ : ∃ p : Nat → Bool, p = fun i => S.c.d.sound (callB S.c.c i) := ⟨_, rfl⟩
        rw [← hp]
        refine Ok.bE (R := fun z => (∀ r, z = .error r → r.1 = pick p nI S.c.c.n k ∧ RC A b r.2 S ∧ Kp b h r.2) ∧ ∀ r, z = .ok r → r.1 = cnt p S.c.c.n ∧ RC A b r.2 S ∧ Kp b h r.2 ∧ ∀ j, j < S.c.c.n → ¬ (p j = true ∧ cnt p j = k)) ?_ (fun r hr => hr.1 r rfl) (fun r hr => ?_)
        · refine Ok.loopC3 (lp := lp_X1_mended_31 F b k) (fun i u x h' => u = cnt p i ∧ x = nI i ∧ RC A b h' S ∧ Fr (fun _ _ => False) h h' ∧ e_n h' = e_n h + 3 * i ∧ e_u h' = e_u h + 22 * i ∧ ∀ j, j < i → ¬ (p j = true ∧ cnt p j = k)) S.c.c.n (fun i u x h' f hi ⟨eu, e, w', x', n', u', no⟩ nx => ?_) (fun u x h' f ⟨eu, e, w', x', n', u', no⟩ => ?_) (by omega) ⟨rfl, rfl, w, Fr.rf _ h, rfl, rfl, fun j hj => by omega⟩
          · subst e eu
            have hle2 : (nI S.c.c.n ≤ nI i) = False := by rw [p_le (by omega) (by omega)]; simp; omega
            obtain ⟨⟨a, h2⟩, e1, t1, t2, t3, t4, t5, t6, t7⟩ := layBandC w' (by omega) hF (but := nI i) (k := i) (fun j hj => by rw [p_eq (by omega) (by omega)])
            simp only at t1 t2 t3 t4 t5 t6 t7
            subst t1
            have w2 := w'.fr t4 t5 fun a j z => z.elim
            have es := soundC w2 t2 hF
            have x2 := x'.tr t4
            have hpi : S.c.d.sound (callB S.c.c i) = p i := by rw [hp]
            rw [hpi] at es
            simp only [lp_X1_mended_31, w'.f0 7 7 (by decide), p_fI w'.cl.k, w'.cl.n, hle2, if_false, p_is w'.cl.k, e1, b2_s, p_is w2.k0, es, Option.bind_some]
            have kp := x2.kp hn (fun a j z => z.elim) (show e_n h2 ≤ _ by omega) (show e_u h2 ≤ _ by omega)
            by_cases y : p i = true
            · rw [y, if_neg (by decide)]
              by_cases y2 : cnt p i = k
              · rw [if_pos y2]
                simp only [bE_e]
                refine Ok.ret ⟨fun r hr => ?_, fun r hr => by cases hr⟩
                cases hr
                exact ⟨(pick_at (r := nI) hi y y2 no).symm, w2, kp⟩
              · rw [if_neg y2]
                simp only [Option.bind_some, bE_o, ← nI_succ]
                refine nx _ _ _ ⟨by rw [cnt_s, if_pos y], rfl, w2, x2, by omega, by omega, fun j hj => ?_⟩
                by_cases z : j = i
                · rw [z]; exact fun t => y2 t.2
                · exact no j (by omega)
            · have y' : p i = false := by cases h : p i; rfl; exact absurd h y
              rw [y', if_pos (show b2i false = 0 from rfl)]
              simp only [bE_o, Option.bind_some, ← nI_succ]
              refine nx _ _ _ ⟨by rw [cnt_s, if_neg y], rfl, w2, x2, by omega, by omega, fun j hj => ?_⟩
              by_cases z : j = i
              · rw [z]; exact fun t => y t.1
              · exact no j (by omega)
          · subst e eu
            simp only [lp_X1_mended_31, w'.f0 7 7 (by decide), p_fI w'.cl.k, w'.cl.n, Option.bind_some, Int32.le_refl, if_true]
            refine Ok.ret ⟨fun r hr => (by cases hr), fun r hr => ?_⟩
            cases hr
            exact ⟨rfl, w', x'.kp hn (fun a j z => z.elim) (by omega) (by omega), no⟩
        · obtain ⟨r1, r2, r3, r4⟩ := hr.2 r rfl
          obtain ⟨u, h'⟩ := r
          simp only at r1 r2 r3
          simp only [u2_s]
          rw [pick_no r4]
          by_cases z : k = -1
          · rw [if_pos z, if_pos z]; exact Ok.ret ⟨r1, r2, r3⟩
          · rw [if_neg z, if_neg z]; exact Ok.ret ⟨rfl, r2, r3⟩
      · rw [if_neg hk, pick_neg (by omega) hk]
        exact Ok.ret ⟨rfl, w, Kp.rf b h⟩
theorem RC.lay {h : e_H} (w : RC A b h S) (bn : Bn S) (hF : 20 < F) : Ok (f_X1_lay F h b) fun z => z.1 = S.vLay ∧ RC A b z.2 S.lay ∧ Kp b h z.2 := by
  have hn := w.sh.n
  have wf : wfH h := w.sh.wf
  have hle := w.cl.le
  unfold f_X1_lay St.vLay St.lay St.canLay
  refine Ok.eq (w.f0 7 7 (by decide)) (Ok.eq (v := nI S.c.c.n) (by rw [p_fI w.cl.k, w.cl.n]) ?_)
  by_cases q : S.c.c.n = 0
  · rw [if_pos (show nI S.c.c.n = 0 by rw [q]; rfl), if_pos q, decide_eq_false (by omega)]
    exact Ok.ret ⟨rfl, w, Kp.rf b h⟩
  · rw [if_neg (show ¬ nI S.c.c.n = 0 by rw [p_e0 (by omega)]; exact q), if_neg q, decide_eq_true (show 0 < S.c.c.n by omega)]
    refine Ok.eq (w.f0 7 7 (by decide)) (Ok.is w.cl.k (Ok.eq (w.cl.isClosed (show 9 < F by omega)) ?_))
    cases hc : S.c.c.closed with
    | false => exact Ok.ret ⟨rfl, w, Kp.rf b h⟩
    | true =>
      rw [if_neg (show ¬ b2i true = 0 by decide), if_pos rfl]
      refine Ok.eq (w.f0 7 7 (by decide)) (Ok.is w.cl.k ?_)
      obtain ⟨⟨a, h1⟩, e1, t1, t2, t3, t4, t5, t6, t7⟩ := layBandC w (by omega) hF (but := -1) (k := S.c.c.n) (fun j hj => ⟨fun e => by
        exfalso
        have := congrArg Int32.toInt e
        rw [nI_toInt (by omega), show (-1 : Int32).toInt = -1 from rfl] at this
        omega, fun e => by omega⟩)
      simp only at t1 t2 t3 t4 t5 t6 t7
      subst t1
      rw [e1]
      simp only [b2_s]
      have w1 := w.fr t4 t5 fun a j z => z.elim
      obtain ⟨B, o, ba, cv⟩ := w1.view
      have m8 := cv.m8
      have ew : f_X3_why F h1 B (e_n h) (-1) = some S.wLay := cv.why t2 (show 9 < F by omega) (but := -1) (k := S.c.m) (fun o ho => ⟨fun e => by
        exfalso
        have := congrArg Int32.toInt e
        rw [nI_toInt (by omega), show (-1 : Int32).toInt = -1 from rfl] at this
        omega, fun e => by omega⟩)
      have kp1 : Kp b h h1 := t4.kp hn (fun a j z => z.elim) (by omega) (by omega)
      refine Ok.eq cv.fB (Ok.eq cv.isd (Ok.eq ew ?_))
      rcases Hd.wrong_v S.c.d S.c.m S.c.bd S.c.m (callB S.c.c S.c.c.n) with hz | ⟨hz1, hz2⟩
      · have hz : S.wLay = 0 := hz
        rw [hz, if_pos (Int32.le_refl _), if_pos rfl, decide_eq_true (rfl : (0 : Int32) = 0)]
        refine Ok.eq cv.fB (Ok.eq cv.fm ?_)
        by_cases m7 : S.c.m = 8
        · rw [if_pos (show nI S.c.m = 8 by rw [m7]; rfl), if_pos m7, decide_eq_false (show ¬ S.c.m < 8 by omega)]
          exact Ok.ret ⟨rfl, w1, kp1⟩
        · rw [if_neg (show ¬ nI S.c.m = 8 by rw [show (8 : Int32) = nI 8 from rfl, p_eq (by omega) (by omega)]; exact m7), if_neg m7, decide_eq_true (show S.c.m < 8 by omega)]
          simp only [Bool.and_self, if_true]
          obtain ⟨rl, d⟩ := w.dyn
          have d1 := d.fr wf hn t4 (fun a j z => z.elim) id id (fun _ => id) (fun _ => id)
          refine Ok.bind (keepC w1 bn d1) fun h2 ⟨w2, d2, x2, wf2, n2, u2⟩ => ?_
          obtain ⟨B2, o2, ba2, cv2⟩ := w2.view
          have g2 := t2.fr t5 x2 (fun j z => by unfold KW at z; omega) (fun j z => by unfold KW at z; omega) (fun j z => by unfold KW at z; omega)
          have nm2 : e_J h2 (e_n h) 3 = e256 (callB S.c.c S.c.c.n).nm := by rw [x2.J (e_n h) 3 (by omega) (by unfold KW; omega)]; exact t3
          obtain ⟨B3, o3, ba3, rB3, hd3, hm3, row3⟩ := d2.cur
          have e1 : B3 = B2 := Option.some.inj (rB3.symm.trans cv2.rB)
          subst e1
          have e2 : ba3 = ba2 := Option.some.inj (hd3.r.symm.trans cv2.rb)
          subst e2
          have fba := (d2.dom ba3 (by rw [hd3.rb]; decide)).2
          have fB := (d2.dom B3 (by rw [hd3.rB]; decide)).2
          refine Ok.eq cv2.fB (Ok.eq cv2.fb (Ok.eq cv2.fB (Ok.eq cv2.fm (Ok.eq (p_wR cv2.kb (show S.c.m < 8 by omega) (by decide) (fit4 (Or.inr ⟨e_n h, rfl, g2.k⟩))) ?_))))
          obtain ⟨h3, hh3⟩ : ∃ z, z = e_sR h2 ba3 S.keep.c.m (some (e_n h)) := ⟨_, rfl⟩
          rw [← hh3]
          have k3 : e_k h3 b = some (.inl 0) := by rw [hh3]; exact w2.k0
          have kB3 : e_k h3 B3 = some (.inl 2) := by rw [hh3]; exact hd3.bh.k
          have hm3 : e_I h2 B3 4 = nI S.c.m := hm3
          refine Ok.eq (p_fA k3 (by rw [hh3, e_R_sR, if_neg (by omega)]; exact rB3)) (Ok.eq (v := nI S.c.m) (by rw [p_fI kB3, hh3, e_I_sR, hm3]) (Ok.gI kB3 (Ok.ret ⟨rfl, ?_, ?_⟩)))
          · have d3 := d2.setB wf2 (by omega) hn (by omega) (fun a h1 h2 => by
              rw [if_neg (by omega)]
              by_cases z : rl a = 0
              · exact z
              · have := (d.dom a z).1; omega) g2 nm2 rB3 hd3.r (k := S.c.m) (m' := S.c.m + 1) (by omega) (Or.inr ⟨rfl, rfl⟩) (by omega) (h' := e_sI h3 B3 4 (nI S.c.m + 1)) (by rw [hh3, nI_succ]; rfl)
            refine w2.dynU (h' := e_sI h3 B3 4 (nI S.c.m + 1)) (S' := (St.mk S.keep.tl S.keep.tp S.keep.fault S.keep.why ((Im.mk S.c.d (S.c.m + 1) (putB S.c.bd S.c.m (callB S.c.c S.c.c.n)) S.c.c S.c.lm S.c.la S.c.lb S.c.sn)) S.keep.um S.keep.ud S.keep.fm S.keep.fo S.keep.xm S.keep.tx S.keep.im)) ?_ ?_ rfl ?_ ⟨_, d3⟩
            · rw [hh3]
              exact ((Fr.rf _ h2).sR _ (Or.inr (Or.inr (Or.inr (Or.inr (Or.inr fba)))))).sI _ (Or.inr (Or.inr (Or.inr (Or.inr (Or.inr fB)))))
            · rw [hh3]; exact wf2.of rfl rfl
            · rw [e_I_sI, if_neg (by omega), hh3, e_I_sR]; exact w2.um
          · have X : Fr (DC b) h (e_sI h3 B3 4 (nI S.c.m + 1)) := by
              rw [hh3]
              exact (((t4.mono fun _ _ z => z.elim).tr (x2.mono fun a j z => KW_DC z)).sR _ (Or.inr (Far_DC fba))).sI _ (Or.inr (Far_DC fB))
            exact X.kpD hn (by rw [hh3]; show e_n h2 ≤ _; omega) (by rw [hh3]; show e_u h2 ≤ _; omega)
      · have hz2 : ¬ S.wLay = 0 := hz2
        have : ¬ S.wLay ≤ 0 := by rw [i_nle]; exact fun z => z hz1
        rw [if_neg this, if_neg hz2, decide_eq_false hz2]
        exact Ok.ret ⟨rfl, w1, kp1⟩
end
