/-! PURE LAYER 23: the call even -/
section
variable {A : Nat → Nat} {b F m : Nat} {S : St}
theorem i_2sub {n : Nat} (h : n < 2) : (2 : Int32) - nI n = nI (2 - n) := by rw [show (2 : Int32) = nI 2 from rfl, p_sub (by omega)]
/-- a band against itself turned -/
theorem evenC {h : e_H} (w : RC A b h S) {a xs ys : Nat} {P : Bd} (g : IsBd h a xs ys P) (r1 : Far b a) (r2 : Far b xs) (r3 : Far b ys) (h0 : 0 < P.n) (hF : 20 < F) {t : Nat} (ht : t < 8) :
    ∃ h1 h2 v, f_X1_turned F h a (nI t) = some (e_n h, h1) ∧ e_is h1 b 0 = some () ∧ f_X1_areAlike F h1 b a (e_n h) 0 = some (v, h2) ∧ v = pI (evenP P t) ∧ RC A b h2 S ∧ Fr (SW3 b) h h2 ∧ e_n h2 = e_n h + 3 ∧ e_u h2 = e_u h + 22 ∧ IsBd h2 a xs ys P := by
  have hn := w.sh.n
  obtain ⟨⟨z1, h1⟩, e1, ⟨t1, t2, t3, t4, t5, t6⟩⟩ := turned g w.sh.wf hF ht
  simp only at t1 t2 t3 t4 t5 t6
  subst t1
  have w1 := w.fr t3 t4 fun a j z => z.elim
  have g1 := g.fr w.sh.wf t3 (fun _ => id) (fun _ => id) (fun _ => id)
  have far : ∀ k, ∀ j, ¬ SW3 b (e_n h + k) j := fun k j z => by unfold SW3 at z; omega
  obtain ⟨⟨v, h2⟩, e2, ⟨m2, e3⟩⟩ := areAlikeC w1 g1 r1.sw r2.sw r3.sw t2 (far 0) (far 1) (far 2) h0 hF (how := 0) (by decide)
  simp only at m2 e3
  refine ⟨h1, h2, v, e1, p_is w1.k0, e2, ?_, w1.mfC m2 fun q j z => SW3_CW z, (t3.mono fun _ _ z => z.elim).tr m2.toFr, by rw [m2.n, t5], by rw [m2.u, t6], g1.mf m2 r1.sw r2.sw r3.sw⟩
  rw [e3]
  refine pI_iff ⟨fun z => ?_, fun z => ⟨rfl, ?_⟩⟩
  · obtain ⟨-, l, l1, l2⟩ := z
    exact ⟨l, l1, l2.iff fun s => setC_turn P t s⟩
  · obtain ⟨l, l1, l2⟩ := z
    exact ⟨l, l1, l2.iff fun s => (setC_turn P t s).symm⟩
theorem RC.even {h : e_H} (w : RC A b h S) (hp : ∀ j, j < S.c.m → 0 < (S.c.bd j).n) (hF : 20 < F) (v k : Int32) : Ok (f_X1_even F h b v k) fun z => z.1 = S.vEven v k ∧ RC A b z.2 S ∧ Kp b h z.2 := by
  obtain ⟨B, o, ba, cv⟩ := w.view
  have hm := cv.m8
  have hn := w.sh.n
  unfold f_X1_even St.vEven St.canForm
  simp only [cv.is, cv.isBand, Option.bind_some, f_isIn]
  cases q1 : S.c.isB v with
  | false => exact Ok.ret ⟨rfl, w, Kp.rf b h⟩
  | true =>
    cases q3 : g_in k 0 2 with
    | false => exact Ok.ret ⟨rfl, w, Kp.rf b h⟩
    | true =>
      obtain ⟨k1, rfl, h1⟩ := Im.isB_of q1 hm
      obtain ⟨n, hn3, rfl⟩ := how_of q3
      obtain ⟨a1, xs1, ys1, g1, w1, r1, r2, r3⟩ := cv.bdF h1
      have hp1 := hp k1 h1
      simp only [b2i, if_true, show ¬ (1 : Int32) = 0 by decide, if_false, cv.fB, cv.fb, g1, Option.bind_some, Bool.and_self, Im.vB, nI_clamp (show k1 < 2 ^ 31 by omega), nI_clamp (show n < 2 ^ 31 by omega)]
      generalize S.c.bd k1 = P at w1 hp1
      by_cases h2 : n = 2
      · subst h2
        rw [if_pos (show (2 : Int32) ≤ nI 2 from Int32.le_refl _), if_pos (show nI 2 = 2 from rfl)]
        refine Ok.bE (R := fun z => (∀ r, z = .error r → r.1 = pI (∃ w, 4 ≤ w ∧ w < 8 ∧ evenP P w) ∧ RC A b r.2 S ∧ Kp b h r.2) ∧ ∀ r, z = .ok r → pI (∃ w, 4 ≤ w ∧ w < 8 ∧ evenP P w) = 0 ∧ RC A b r S ∧ Kp b h r) ?_ (fun r hr => hr.1 r rfl) (fun r hr => ?_)
        · refine Ok.loopC2 (lp := lp_X1_even_59 F b a1) (fun i x h' => x = nI (4 + i) ∧ RC A b h' S ∧ Fr (SW3 b) h h' ∧ e_n h' = e_n h + 3 * i ∧ e_u h' = e_u h + 22 * i ∧ IsBd h' a1 xs1 ys1 P ∧ ∀ w, 4 ≤ w → w < 4 + i → ¬ evenP P w) 4 (fun i x h' f hi ⟨e, w', x', n', u', g', no⟩ nx => ?_) (fun x h' f ⟨e, w', x', n', u', g', no⟩ => ?_) (by omega) ⟨rfl, w, Fr.rf _ h, rfl, rfl, w1, fun w h1 h2 => by omega⟩
          · subst e
            obtain ⟨h1', h2', v', e1, e2, e3, e4, w2, x2, n2, u2, g2⟩ := evenC w' g' r1 r2 r3 hp1 hF (t := 4 + i) (by omega)
            have hle : ((8 : Int32) ≤ nI (4 + i)) = False := by rw [show (8 : Int32) = nI 8 from rfl, p_le (by omega) (by omega)]; simp; omega
            have x3 := x'.tr x2
            by_cases y : evenP P (4 + i)
            · rw [pI_t y] at e4
              subst e4
              simp only [lp_X1_even_59, hle, if_false, e1, b2_s, e2, Option.bind_some, e3, show ¬ (1 : Int32) = 0 by decide]
              refine Ok.ret ⟨fun r hr => ?_, fun r hr => by cases hr⟩
              cases hr
              exact ⟨(pI_t ⟨4 + i, by omega, by omega, y⟩).symm, w2, x3.kp hn (fun a j z => by unfold SW3 at z; omega) (by omega) (by omega)⟩
            · rw [pI_f y] at e4
              subst e4
              simp only [lp_X1_even_59, hle, if_false, e1, b2_s, e2, Option.bind_some, e3, if_true, ← nI_succ]
              refine nx _ _ ⟨rfl, w2, x3, by omega, by omega, g2, fun w q1 q2 => ?_⟩
              by_cases y2 : w = 4 + i
              · rw [y2]; exact y
              · exact no w q1 (by omega)
          · subst e
            simp only [lp_X1_even_59, show (8 : Int32) ≤ nI (4 + 4) from Int32.le_refl _, if_true]
            refine Ok.ret ⟨fun r hr => (by cases hr), fun r hr => ?_⟩
            cases hr
            exact ⟨pI_f fun ⟨w, q1, q2, q3⟩ => no w q1 (by omega) q3, w', x'.kp hn (fun a j z => by unfold SW3 at z; omega) (by omega) (by omega)⟩
        · obtain ⟨q1, q2, q3⟩ := hr.2 r rfl
          exact Ok.ret ⟨q1.symm, q2, q3⟩
      · have h22 : ¬ (2 : Int32) ≤ nI n := by rw [show (2 : Int32) = nI 2 from rfl, p_le (by omega) (by omega)]; omega
        have h23 : ¬ nI n = 2 := by rw [show (2 : Int32) = nI 2 from rfl, p_eq (by omega) (by omega)]; exact h2
        rw [if_neg h22, if_neg h23, i_2sub (by omega)]
        obtain ⟨h1', h2', v', e1, e2, e3, e4, w2, x2, n2, u2, g2⟩ := evenC w w1 r1 r2 r3 hp1 hF (t := 2 - n) (by omega)
        rw [e1]
        simp only [b2_s, e2, Option.bind_some, e3]
        have kp := x2.kp hn (fun a j z => by unfold SW3 at z; omega) (by omega) (by omega)
        by_cases y : evenP P (2 - n)
        · rw [pI_t y] at e4 ⊢
          subst e4
          exact Ok.ret ⟨rfl, w2, kp⟩
        · rw [pI_f y] at e4 ⊢
          subst e4
          exact Ok.ret ⟨rfl, w2, kp⟩
theorem RM.even {h : e_H} (w0 : RM m h S) (hf : ∀ j, j < S.c.m → (S.c.bd j).fit) (hF : 20 < F) (v k : Int32) : Ok (f_X10_even F h m v k) fun z => z.1 = S.vEven v k ∧ RM m z.2 S ∧ MF (fun a _ => MA m a) h z.2 := by
  have w := w0.thr 0
  have x0 : MF (fun a _ => MA m a) h (e_sI h m 0 0) := (MF.rf _ h).sI _ (by unfold MA; omega)
  have hm := w.view.m8
  unfold f_X10_even St.vEven St.canForm
  refine Ok.gI w0.sh.1 ?_
  simp only [w.view.o.is, w.view.isBand, Option.bind_some, f_isIn10]
  have up : ∀ {g g' : e_H}, MF (LW2 m) g g' → MF (fun a _ => MA m a) g g' := fun x => x.mono fun a j z => by unfold LW2 at z; unfold MA; omega
  cases q1 : S.c.isB v with
  | false => exact Ok.ret ⟨rfl, w, x0⟩
  | true =>
    cases q3 : g_in k 0 2 with
    | false => exact Ok.ret ⟨rfl, w, x0⟩
    | true =>
      obtain ⟨k1, rfl, h1⟩ := Im.isB_of q1 hm
      obtain ⟨n, hn3, rfl⟩ := how_of q3
      simp only [b2i, if_true, show ¬ (1 : Int32) = 0 by decide, if_false, Bool.and_self, Im.vB, nI_clamp (show k1 < 2 ^ 31 by omega), nI_clamp (show n < 2 ^ 31 by omega)]
      by_cases h2 : n = 2
      · subst h2
        rw [if_pos (show (2 : Int32) ≤ nI 2 from Int32.le_refl _), if_pos (show nI 2 = 2 from rfl)]
        have exI : (∃ w, 4 ≤ w ∧ w < 8 ∧ evenP (S.c.bd k1) w) ↔ ∃ q, q < 4 ∧ evenP (S.c.bd k1) (wayOf q true) := by
          constructor
          · rintro ⟨w, a1, a2, a3⟩
            have : w = 4 ∨ w = 5 ∨ w = 6 ∨ w = 7 := by omega
            rcases this with rfl | rfl | rfl | rfl
            · exact ⟨0, by decide, a3⟩
            · exact ⟨3, by decide, a3⟩
            · exact ⟨2, by decide, a3⟩
            · exact ⟨1, by decide, a3⟩
          · rintro ⟨q, a1, a2⟩
            have : q = 0 ∨ q = 1 ∨ q = 2 ∨ q = 3 := by omega
            rcases this with rfl | rfl | rfl | rfl
            · exact ⟨4, by decide, by decide, a2⟩
            · exact ⟨7, by decide, by decide, a2⟩
            · exact ⟨6, by decide, by decide, a2⟩
            · exact ⟨5, by decide, by decide, a2⟩
        rw [pI_iff exI]
        refine Ok.bE (R := fun z => (∀ r, z = .error r → r.1 = pI (∃ q, q < 4 ∧ evenP (S.c.bd k1) (wayOf q true)) ∧ RM m r.2 S ∧ MF (fun a _ => MA m a) h r.2) ∧ ∀ r, z = .ok r → pI (∃ q, q < 4 ∧ evenP (S.c.bd k1) (wayOf q true)) = 0 ∧ RM m r S ∧ MF (fun a _ => MA m a) h r) ?_ (fun r hr => hr.1 r rfl) (fun r hr => ?_)
        · refine Ok.loopC2 (lp := lp_X10_even_49 F m (nI k1)) (fun i x h' => x = nI i ∧ RM m h' S ∧ MF (fun a _ => MA m a) h h' ∧ ∀ q, q < i → ¬ evenP (S.c.bd k1) (wayOf q true)) 4 (fun i x h' f hi ⟨e, w', x', no⟩ nx => ?_) (fun x h' f ⟨e, w', x', no⟩ => ?_) (by omega) ⟨rfl, w, x0, fun q h1 => by omega⟩
          · subst e
            obtain ⟨⟨v', h2'⟩, e1, ⟨m2, e2⟩⟩ := isSameM w' h1 (hf k1 h1) hF hi true
            simp only at m2 e2
            have e1 : f_X10_isSame F h' m (nI k1) (nI i) 1 = some (v', h2') := e1
            have hle : ((4 : Int32) ≤ nI i) = False := by rw [show (4 : Int32) = nI 4 from rfl, p_le (by omega) (by omega)]; simp; omega
            have w2 := w'.mf m2 fun a j z => LW2_MW z
            by_cases y : evenP (S.c.bd k1) (wayOf i true)
            · rw [pI_t y] at e2
              subst e2
              simp only [lp_X10_even_49, hle, if_false, p_is w'.sh.1, e1, b2_s, Option.bind_some, show ¬ (1 : Int32) = 0 by decide]
              refine Ok.ret ⟨fun r hr => ?_, fun r hr => by cases hr⟩
              cases hr
              exact ⟨(pI_t ⟨i, hi, y⟩).symm, w2, x'.tr (up m2)⟩
            · rw [pI_f y] at e2
              subst e2
              simp only [lp_X10_even_49, hle, if_false, p_is w'.sh.1, e1, b2_s, Option.bind_some, if_true, ← nI_succ]
              refine nx _ _ ⟨rfl, w2, x'.tr (up m2), fun q q1 => ?_⟩
              by_cases y2 : q = i
              · rw [y2]; exact y
              · exact no q (by omega)
          · subst e
            simp only [lp_X10_even_49, show (4 : Int32) ≤ nI 4 from Int32.le_refl _, if_true]
            refine Ok.ret ⟨fun r hr => (by cases hr), fun r hr => ?_⟩
            cases hr
            exact ⟨pI_f fun ⟨q, q1, q2⟩ => no q q1 q2, w', x'⟩
        · obtain ⟨q1, q2, q3⟩ := hr.2 r rfl
          exact Ok.ret ⟨q1.symm, q2, q3⟩
      · have h22 : ¬ (2 : Int32) ≤ nI n := by rw [show (2 : Int32) = nI 2 from rfl, p_le (by omega) (by omega)]; omega
        have h23 : ¬ nI n = 2 := by rw [show (2 : Int32) = nI 2 from rfl, p_eq (by omega) (by omega)]; exact h2
        rw [if_neg h22, if_neg h23, i_2sub (by omega)]
        refine Ok.b2 (isSameM w h1 (hf k1 h1) hF (show 2 - n < 4 by omega) false) fun u h' ⟨mf, e⟩ => ?_
        have e : u = pI (evenP (S.c.bd k1) (2 - n)) := e
        have mf : MF (LW2 m) (e_sI h m 0 0) h' := mf
        have w' := w.mf mf fun a j z => LW2_MW z
        by_cases y : evenP (S.c.bd k1) (2 - n)
        · rw [pI_t y] at e ⊢
          subst e
          exact Ok.ret ⟨rfl, w', x0.tr (up mf)⟩
        · rw [pI_f y] at e ⊢
          subst e
          exact Ok.ret ⟨rfl, w', x0.tr (up mf)⟩
end
