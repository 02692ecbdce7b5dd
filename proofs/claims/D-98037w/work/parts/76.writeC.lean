/-! PURE LAYER 37: the call write, the component's side -/
def TW2 (b a j : Nat) : Prop := (a = b ∧ j = 21) ∨ a = b + 20
def TxC (b : Nat) (h0 h : e_H) (l : List Int32) : Prop := MF (TW2 b) h0 h ∧ e_I h b 21 = nI l.length ∧ ∀ i, i < l.length → e_I h (b + 20) i = l.getD i 0
theorem getD_app (l : List Int32) (c : Int32) (i : Nat) : (l ++ [c]).getD i 0 = if i = l.length then c else l.getD i 0 := by
  by_cases q : i = l.length
  · subst q
    rw [if_pos rfl, List.getD_eq_getElem?_getD, List.getElem?_append_right (Nat.le_refl _), Nat.sub_self]; rfl
  · rw [if_neg q, List.getD_eq_getElem?_getD, List.getD_eq_getElem?_getD]
    by_cases z : i < l.length
    · rw [List.getElem?_append_left z]
    · rw [List.getElem?_eq_none (by rw [List.length_append]; simp; omega), List.getElem?_eq_none (by omega)]
theorem cR_TW2 {b : Nat} : ∀ q ∈ cR, ¬ TW2 b (b + q.1) q.2.1 := by
  have : ∀ q ∈ cR, q.1 ≠ 20 ∧ ¬ (q.1 = 0 ∧ q.2.1 = 21) := by decide
  intro q hq; have := this q hq; unfold TW2; omega
theorem RC.toText {A : Nat → Nat} {b : Nat} {h h' : e_H} {S S' : St} (w : RC A b h S) (x : Fr (TW2 b) h h') (wf : ∀ a, e_n h' ≤ a → e_k h' a = none) (hS : S' = (St.mk S.tl S.tp S.fault S.why S.c S.um S.ud S.fm S.fo (S'.xm) (S'.tx) S.im)) (xm : e_I h' b 21 = nI S'.xm) (tx : ∀ i, i < S'.xm → e_I h' (b + 20) i = S'.tx i) : RC A b h' S' := by
  have hn := w.sh.n
  have cw := cR_TW2 (b := b)
  have hk : ∀ a, e_k h a ≠ none → e_k h' a = e_k h a := fun a ha => x.k a (kne w.sh.wf ha)
  rw [hS]
  exact ⟨(w.sh.fr x wf cw (fun j => by unfold TW2; omega) (fun j => by unfold TW2; omega) (by unfold TW2; omega) (by unfold TW2; omega) (by unfold TW2; omega)),
    ((x.I (b) 1 (by omega) (by unfold TW2; omega)).trans w.tl),
    (fun i hi => (x.I (b + 1) i (by omega) (by unfold TW2; omega)).trans (w.tp i hi)),
    ((x.I (b) 11 (by omega) (by unfold TW2; omega)).trans w.fault),
    ((x.I (b) 12 (by omega) (by unfold TW2; omega)).trans w.why),
    ((x.I (b) 17 (by omega) (by unfold TW2; omega)).trans w.fm),
    (fun i hi => (x.I (b + 18) i (by omega) (by unfold TW2; omega)).trans (w.fo i hi)),
    ((x.I (b) 19 (by omega) (by unfold TW2; omega)).trans w.um),
    (xm),
    (tx),
    ((x.I (b) 33 (by omega) (by unfold TW2; omega)).trans w.lm),
    (w.ln.ev hk (funext fun j => (x.I (b + 28) j (by omega) (by unfold TW2; omega))) (funext fun j => (x.I (b + 29) j (by omega) (by unfold TW2; omega)))),
    (w.cl.ev hk (x.R (b + 7) 0 (by omega) (by unfold TW2; omega)) (x.R (b + 7) 1 (by omega) (by unfold TW2; omega)) (x.I (b + 7) 2 (by omega) (by unfold TW2; omega)) (x.I (b + 7) 3 (by omega) (by unfold TW2; omega)) (x.I (b + 7) 4 (by omega) (by unfold TW2; omega)) (funext fun j => (x.I (b + 8) j (by omega) (by unfold TW2; omega))) (funext fun j => (x.I (b + 9) j (by omega) (by unfold TW2; omega)))),
    (by
      obtain ⟨rl, d⟩ := w.dyn
      have d' := d.fr w.sh.wf hn x (fun a j z => by
        by_cases q : rl a = 0
        · exact q
        · have := (d.dom a q).2
          unfold TW2 at z; omega) (by unfold TW2; omega) (by unfold TW2; omega) (fun j => by unfold TW2; omega) (fun j => by unfold TW2; omega)
      exact ⟨rl, d'.dom, d'.cur, d'.und, d'.sen, d'.img⟩)⟩
section
variable {A : Nat → Nat} {b F : Nat} {S : St} {h0 : e_H}
theorem putC (w : RC A b h0 S) {h : e_H} {l : List Int32} (t : TxC b h0 h l) (hl : l.length < 100) {c : Int32} (hc : okC c) : Ok (f_X1_put h b c) fun h' => TxC b h0 h' (l ++ [c]) := by
  obtain ⟨mf, e, r⟩ := t
  have kb : e_k h b = some (.inl 0) := by rw [mf.k]; exact w.k0
  have k20 : e_k h (b + 20) = some (.inr (1, 100)) := by rw [mf.k]; exact w.kk 20 _ (by simp [cK])
  unfold f_X1_put
  refine Ok.eq (p_fA kb (by rw [mf.R]; exact w.r0 20 20 (by decide))) (Ok.eq (v := nI l.length) (by rw [p_fI kb, e]) (Ok.eq (p_wI k20 hl (by decide) _) ?_))
  have kb1 : e_k (e_sI h (b + 20) l.length (c.toInt8.toInt32).toInt8.toInt32) b = some (.inl 0) := kb
  refine Ok.eq (v := nI l.length) (by rw [p_fI kb1, e_I_sI, if_neg (by omega), e]) (Ok.gI kb1 (Ok.ret ⟨(mf.sI _ (Or.inr rfl)).sI _ (Or.inl ⟨rfl, rfl⟩), ?_, fun i hi => ?_⟩))
  · rw [e_I_sI, if_pos ⟨rfl, rfl⟩, List.length_append, ← nI_succ]; rfl
  · rw [List.length_append] at hi
    rw [e_I_sI, if_neg (by omega), e_I_sI, getD_app]
    have hc' : (c.toInt8.toInt32).toInt8.toInt32 = c := hc
    by_cases q : i = l.length
    · rw [if_pos ⟨rfl, q⟩, if_pos q, hc']
    · rw [if_neg (fun z => q z.2), if_neg q]
      exact r i (by simp at hi; omega)
theorem TxC.kb (w : RC A b h0 S) {h : e_H} {l : List Int32} (t : TxC b h0 h l) : e_is h b 0 = some () := p_is (by rw [t.1.k]; exact w.k0)
theorem putNumC (w : RC A b h0 S) {h : e_H} {l : List Int32} (t : TxC b h0 h l) (hl : l.length + 3 ≤ 100) {v : Int32} (hv : g_s9 v) : Ok (f_X1_putNumber h b v) fun h' => TxC b h0 h' (l ++ numL v) := by
  unfold f_X1_putNumber
  refine Ok.eq (t.kb w) (Ok.bind (putC w t (by omega) (by unfold okC; decide)) fun h1 t1 => ?_)
  have hsz : (if 0 ≤ v then v else 0 - v) = g_abs v := by unfold g_abs; rw [i_zsub]
  rw [hsz]
  by_cases q : 0 ≤ v
  · rw [if_pos q]
    refine Ok.sm (Ok.eq (t1.kb w) (Ok.bind (putC w t1 (by simp; omega) (okC_abs hv)) fun h2 t2 => Ok.ret ?_))
    have : l ++ [32] ++ [48 + g_abs v] = l ++ numL v := by unfold numL; rw [if_pos q, List.append_assoc]; rfl
    rw [← this]; exact t2
  · rw [if_neg q]
    refine Ok.bind (R := fun h2 => TxC b h0 h2 (l ++ [32] ++ [45])) (Ok.eq (t1.kb w) (Ok.bind (putC w t1 (by simp; omega) (by unfold okC; decide)) fun h2 t2 => Ok.ret t2)) fun h2 t2 => ?_
    refine Ok.eq (t2.kb w) (Ok.bind (putC w t2 (by simp; omega) (okC_abs hv)) fun h3 t3 => Ok.ret ?_)
    have : l ++ [32] ++ [45] ++ [48 + g_abs v] = l ++ numL v := by unfold numL; rw [if_neg q, List.append_assoc, List.append_assoc]; rfl
    rw [← this]; exact t3
theorem numL_le (v : Int32) : (numL v).length ≤ 3 := by rw [numL_len]; have := neg1_le v; omega
theorem writeC (w : RC A b h0 S) {h : e_H} (x : MF (TW2 b) h0 h) {a xs ys : Nat} {P : Bd} (g : IsBd h0 a xs ys P) (r1 : Far b a) (r2 : Far b xs) (r3 : Far b ys) (hP : P.fit) (hF : 20 < F) {f : Nat} (hf : f < P.n) (fw : Bool) :
    Ok (f_X1_write_2 F h b a (nI f) (b2i fw)) fun h' => TxC b h0 h' (wrL P f fw P.n) := by
  have h8 := hP.1
  have far : ∀ {q : Nat}, Far b q → ∀ j, ¬ TW2 b q j := fun z j y => by unfold Far at z; unfold TW2 at y; omega
  have gg : ∀ {h l}, TxC b h0 h l → IsBd h a xs ys P := fun t => g.mf t.1 (far r1) (far r2) (far r3)
  have kb : e_k h b = some (.inl 0) := by rw [x.k]; exact w.k0
  obtain ⟨a0, b0, ha0, hb0, ex0, ey0⟩ := hP.2 f hf
  unfold f_X1_write_2
  refine Ok.gI kb ?_
  have t0 : TxC b h0 (e_sI h b 21 0) [] := ⟨x.sI _ (Or.inl ⟨rfl, rfl⟩), by rw [e_I_sI, if_pos ⟨rfl, rfl⟩]; rfl, fun i hi => absurd hi (Nat.not_lt_zero i)⟩
  refine Ok.eq (t0.kb w) (Ok.bind (putC w t0 (by decide) (by unfold okC; decide)) fun h1 t1 => Ok.eq (t1.kb w) (Ok.bind (putC w t1 (by decide) (by unfold okC; decide)) fun h2 t2 => ?_))
  refine Ok.eq (gg t2).fx (Ok.eq ((gg t2).ax hf) (Ok.eq (t2.kb w) (Ok.bind (putNumC w t2 (by decide) (by rw [ex0]; exact g_s9_nI ha0)) fun h3 t3 => ?_)))
  have n3 := numL_le (P.x f)
  refine Ok.eq (gg t3).fy (Ok.eq ((gg t3).ay hf) (Ok.eq (t3.kb w) (Ok.bind (putNumC w t3 (by simp; omega) (by rw [ey0]; exact g_s9_nI hb0)) fun h4 t4 => ?_)))
  have n4 := numL_le (P.y f)
  refine Ok.eq (t4.kb w) (Ok.bind (putC w t4 (by simp; omega) (by unfold okC; decide)) fun h5 t5 => ?_)
  have t5 : TxC b h0 h5 (headL P f) := t5
  refine Ok.bind (R := fun h' => TxC b h0 h' (wrL P f fw P.n)) ?_ fun h' t => Ok.ret t
  refine Ok.loopC3 (lp := lp_X1_write_2_49 F b a (b2i fw)) (fun k at' x h' => at' = nI (P.goN fw f k) ∧ x = nI k ∧ TxC b h0 h' (wrL P f fw k)) P.n (fun k at' x h' fu hk ⟨ea, e, t⟩ nx => ?_) (fun at' x h' fu ⟨ea, e, t⟩ => ?_) (by omega) ⟨rfl, rfl, t5⟩
  · subst e ea
    have hi := goN_lt (fw := fw) hf k
    have hj := goN_lt (fw := fw) hf (k + 1)
    have hlen := wrL_le hP fw hf (show k ≤ P.n by omega)
    obtain ⟨ai, bi, hai, hbi, exi, eyi⟩ := hP.2 _ hi
    obtain ⟨aj, bj, haj, hbj, exj, eyj⟩ := hP.2 _ hj
    have hgo : (if b2i fw = 0 then Option.bind (f_X8_last h' a (nI (P.goN fw f k))) (fun x74 => some x74) else Option.bind (f_X8_next h' a (nI (P.goN fw f k))) (fun x65 => some x65)) = some (nI (P.goN fw f (k + 1))) := by
      cases fw with
      | true => rw [if_neg (by decide), (gg t).next hi]; rfl
      | false => rw [if_pos (by rfl), (gg t).last hi]; rfl
    unfold lp_X1_write_2_49
    refine Ok.eq (gg t).fn ?_
    rw [if_neg (by rw [g.nle hk]; exact id)]
    refine Ok.eq hgo (Ok.eq (t.kb w) (Ok.bind (putC w t (by omega) (by unfold okC; decide)) fun h1 t1 => Ok.eq (t1.kb w) (Ok.bind (putC w t1 (by simp; omega) (by unfold okC; decide)) fun h2 t2 => ?_)))
    refine Ok.eq (gg t2).fx (Ok.eq ((gg t2).ax hj) (Ok.eq (gg t2).fx (Ok.eq ((gg t2).ax hi) (Ok.eq (t2.kb w) (Ok.bind (putNumC w t2 (by simp; omega) (by rw [exi, exj]; exact g_s9_sub haj hai)) fun h3 t3 => ?_)))))
    have n3 := numL_le (P.x (P.goN fw f (k + 1)) - P.x (P.goN fw f k))
    refine Ok.eq (gg t3).fy (Ok.eq ((gg t3).ay hj) (Ok.eq (gg t3).fy (Ok.eq ((gg t3).ay hi) (Ok.eq (t3.kb w) (Ok.bind (putNumC w t3 (by simp; omega) (by rw [eyi, eyj]; exact g_s9_sub hbj hbi)) fun h4 t4 => ?_)))))
    have n4 := numL_le (P.y (P.goN fw f (k + 1)) - P.y (P.goN fw f k))
    refine Ok.eq (t4.kb w) (Ok.bind (putC w t4 (by simp; omega) (by unfold okC; decide)) fun h5 t5 => Ok.sm ?_)
    rw [← nI_succ]
    refine nx _ _ _ ⟨rfl, rfl, ?_⟩
    have : wrL P f fw k ++ [98] ++ [121] ++ numL (P.x (P.goN fw f (k + 1)) - P.x (P.goN fw f k)) ++ numL (P.y (P.goN fw f (k + 1)) - P.y (P.goN fw f k)) ++ [59] = wrL P f fw (k + 1) := by
      simp only [wrL, stepL, List.append_assoc, List.cons_append, List.nil_append]
    rw [← this]; exact t5
  · subst e
    unfold lp_X1_write_2_49
    refine Ok.eq (gg t).fn ?_
    rw [if_pos (Int32.le_refl _)]
    exact Ok.ret t
theorem p_e0' {k : Nat} (h : k < 2 ^ 31) : (nI k = 0) = (k = 0) := by rw [p_e0 h]
theorem i_half {k : Nat} (h : k < 2 ^ 31) : nI k / 2 = nI (k / 2) ∧ nI k - nI k / 2 * 2 = nI (k % 2) := ⟨pk_div h (by decide) (by decide), pk_rem h (by decide) (by decide)⟩
theorem RC.write {h : e_H} (w : RC A b h S) (hf : ∀ j, j < S.c.m → (S.c.bd j).fit) (hp : ∀ j, j < S.c.m → 0 < (S.c.bd j).n) (hF : 20 < F) (v : Int32) : Ok (f_X1_write F h b v) fun z => z.1 = S.vWrite v ∧ RC A b z.2 (S.write v) ∧ Kp b h z.2 := by
  obtain ⟨B, o, ba, cv⟩ := w.view
  have hm := cv.m8
  have hn := w.sh.n
  unfold f_X1_write St.vWrite St.write
  simp only [cv.is, cv.isBand, Option.bind_some]
  cases q : S.c.isB v with
  | false => exact Ok.ret ⟨rfl, w, Kp.rf b h⟩
  | true =>
    obtain ⟨k, rfl, hk⟩ := Im.isB_of q hm
    obtain ⟨a, xs, ys, g1, g, r1, r2, r3⟩ := cv.bdF hk
    have hP := hf k hk
    have h0 := hp k hk
    simp only [b2i, if_true, show ¬ (1 : Int32) = 0 by decide, if_false, cv.fB, cv.fb, g1, Option.bind_some, Im.vB, nI_clamp (show k < 2 ^ 31 by omega)]
    obtain ⟨P, hPP⟩ : ∃ P, P = S.c.bd k := ⟨_, rfl⟩
    rw [← hPP] at g hP h0 ⊢
    have h8 := hP.1
    have far : ∀ {q : Nat}, Far b q → ∀ j, ¬ TW2 b q j := fun z j y => by unfold Far at z; unfold TW2 at y; omega
    have flag : ∀ j : Nat, j < 100 → (if nI j - nI j / 2 * 2 = 0 then some (1 : Int32) else some 0) = some (b2i (decide (j % 2 = 0))) := fun j hj => by
      rw [(i_half (show j < 2 ^ 31 by omega)).2]
      by_cases z : j % 2 = 0
      · rw [z]; rfl
      · rw [if_neg (show ¬ nI (j % 2) = 0 by rw [p_e0 (by omega)]; exact z), decide_eq_false z]; rfl
    have lenA : ∀ j, j < 2 * P.n → (wrL P (j / 2) (decide (j % 2 = 0)) P.n).length = 7 + 7 * P.n + negA P (decide (j % 2 = 0)) := fun j hj => wrL_full hP _ (by omega)
    have nA : ∀ fw, negA P fw ≤ 2 * P.n := fun fw => sumN_le fun i _ => negs_le P fw _
    refine Ok.bind (R := fun z => z.1 = nI (if bestFw P = true then 0 else 1) ∧ MF (TW2 b) h z.2) ?_ fun z ⟨z1, z2⟩ => ?_
    · refine Ok.loopC4 (lp := lp_X1_write_30 F b a) (fun j best few x h' => x = nI j ∧ MF (TW2 b) h h' ∧ (j = 0 → best = 0 ∧ few = 1000000000) ∧ (j = 1 → best = 0 ∧ few = nI (7 + 7 * P.n + negA P true)) ∧ (2 ≤ j → best = nI (if bestFw P = true then 0 else 1) ∧ few = nI (7 + 7 * P.n + (if bestFw P = true then negA P true else negA P false)))) (2 * P.n) (fun j best few x h' fu hj ⟨e, x', i0, i1, i2⟩ nx => ?_) (fun best few x h' fu ⟨e, x', i0, i1, i2⟩ => ?_) (by omega) ⟨rfl, MF.rf _ h, fun _ => ⟨rfl, rfl⟩, fun z => by omega, fun z => by omega⟩
      · subst e
        have g' := g.mf x' (far r1) (far r2) (far r3)
        have kb : e_is h' b 0 = some () := p_is (by rw [x'.k]; exact w.k0)
        have hle2 : (nI (2 * P.n) ≤ nI j) = False := by rw [p_le (by omega) (by omega)]; simp; omega
        obtain ⟨h1, e1, t1⟩ := writeC w x' g r1 r2 r3 hP hF (f := j / 2) (by omega) (decide (j % 2 = 0))
        have kb1 : e_k h1 b = some (.inl 0) := by rw [t1.1.k]; exact w.k0
        have hlen := lenA j hj
        have e21 : e_fI h1 b 0 21 = some (nI (7 + 7 * P.n + negA P (decide (j % 2 = 0)))) := by rw [p_fI kb1, t1.2.1, hlen]
        have nT := nA true
        have nF := nA false
        have nD := nA (decide (j % 2 = 0))
        have hbf : bestFw P = true ↔ ¬ negA P false < negA P true := by unfold bestFw; simp
        unfold lp_X1_write_30
        refine Ok.eq g'.fn ?_
        rw [i_2i, if_neg (by rw [hle2]; exact id)]
        refine Ok.eq (flag j (by omega)) (Ok.eq kb ?_)
        rw [(i_half (show j < 2 ^ 31 by omega)).1]
        refine Ok.eq e1 (Ok.eq e21 ?_)
        by_cases c : nI (7 + 7 * P.n + negA P (decide (j % 2 = 0))) < few
        · rw [if_pos c, e21]
          simp only [Option.bind_some, u2_s, ← nI_succ]
          by_cases j0 : j = 0
          · subst j0
            exact nx _ _ _ _ ⟨rfl, t1.1, fun z => by omega, fun _ => ⟨rfl, rfl⟩, fun z => by omega⟩
          · by_cases j1 : j = 1
            · subst j1
              obtain ⟨q1, q2⟩ := i1 rfl
              rw [q2, p_lt (by omega) (by omega)] at c
              have c' : negA P false < negA P true := by
                have : decide ((1 : Nat) % 2 = 0) = false := by decide
                rw [this] at c; omega
              have hb : ¬ bestFw P = true := fun z => hbf.mp z c'
              refine nx _ _ _ _ ⟨rfl, t1.1, fun z => by omega, fun z => by omega, fun _ => ⟨by rw [if_neg hb], by rw [if_neg hb]; rfl⟩⟩
            · obtain ⟨q1, q2⟩ := i2 (by omega)
              exfalso
              rw [q2, p_lt (by omega) (by split <;> omega)] at c
              by_cases hb : bestFw P = true
              · rw [if_pos hb] at c
                have := hbf.mp hb
                cases hd : decide (j % 2 = 0) with
                | true => rw [hd] at c; omega
                | false => rw [hd] at c; omega
              · rw [if_neg hb] at c
                have hlt : negA P false < negA P true := Classical.byContradiction fun z => hb (hbf.mpr z)
                cases hd : decide (j % 2 = 0) with
                | true => rw [hd] at c; omega
                | false => rw [hd] at c; omega
        · rw [if_neg c]
          simp only [Option.bind_some, u2_s, ← nI_succ]
          by_cases j0 : j = 0
          · subst j0
            obtain ⟨q1, q2⟩ := i0 rfl
            exfalso
            apply c
            rw [q2, show (1000000000 : Int32) = nI 1000000000 from rfl, p_lt (by omega) (by decide)]; omega
          · by_cases j1 : j = 1
            · subst j1
              obtain ⟨q1, q2⟩ := i1 rfl
              rw [q2, p_lt (by omega) (by omega)] at c
              have c' : ¬ negA P false < negA P true := by
                have : decide ((1 : Nat) % 2 = 0) = false := by decide
                rw [this] at c; omega
              have hb : bestFw P = true := hbf.mpr c'
              refine nx _ _ _ _ ⟨rfl, t1.1, fun z => by omega, fun z => by omega, fun _ => ⟨by rw [if_pos hb]; exact q1, by rw [if_pos hb]; exact q2⟩⟩
            · exact nx _ _ _ _ ⟨rfl, t1.1, fun z => by omega, fun z => by omega, fun _ => i2 (by omega)⟩
      · subst e
        have g' := g.mf x' (far r1) (far r2) (far r3)
        unfold lp_X1_write_30
        refine Ok.eq g'.fn ?_
        rw [i_2i, if_pos (Int32.le_refl _)]
        exact Ok.ret ⟨(i2 (by omega)).1, x'⟩
    · obtain ⟨best, h1⟩ := z
      have z1 : best = nI (if bestFw P = true then 0 else 1) := z1
      have z2 : MF (TW2 b) h h1 := z2
      subst z1
      simp only [u2_s]
      refine Ok.eq (flag _ (by split <;> omega)) (Ok.is (by rw [z2.k]; exact w.k0) ?_)
      rw [(i_half (show (if bestFw P = true then 0 else 1) < 2 ^ 31 by split <;> omega)).1]
      have e0 : (if bestFw P = true then 0 else 1) / 2 = 0 := by split <;> omega
      have e1 : decide ((if bestFw P = true then 0 else 1) % 2 = 0) = bestFw P := by
        cases bestFw P <;> rfl
      rw [e0, e1]
      refine Ok.bind (writeC w z2 g r1 r2 r3 hP hF (f := 0) h0 (bestFw P)) fun h2 t => ?_
      refine Ok.eq (v := nI (bestL P).length) (by rw [p_fI (by rw [t.1.k]; exact w.k0), t.2.1]; rfl) (Ok.ret ⟨rfl, ?_, ?_⟩)
      · exact w.toText t.1.toFr (fun a ha => by rw [t.1.k]; exact w.sh.wf a (by rw [← t.1.n]; exact ha)) rfl t.2.1 fun i hi => t.2.2 i hi
      · exact t.1.kpC (fun a j z => by unfold TW2 at z; omega) hn
end
