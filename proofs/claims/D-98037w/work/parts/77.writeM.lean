/-! PURE LAYER 38: the call write, the model's side -/
def TWm (m a j : Nat) : Prop := (a = m ∧ (j = 0 ∨ j = 36)) ∨ a = m + 19
def TxM (m : Nat) (h0 h : e_H) (l : List Int32) : Prop := MF (TWm m) h0 h ∧ e_I h m 36 = nI l.length ∧ ∀ i, i < l.length → e_I h (m + 19) i = l.getD i 0
theorem RM.toText {m : Nat} {h h' : e_H} {S S' : St} (w : RM m h S) (x : MF (TWm m) h h') (hS : S' = (St.mk S.tl S.tp S.fault S.why S.c S.um S.ud S.fm S.fo (S'.xm) (S'.tx) S.im)) (xm : e_I h' m 36 = nI S'.xm) (tx : ∀ i, i < S'.xm → e_I h' (m + 19) i = S'.tx i) : RM m h' S' := by
  have FI : ∀ k, 1 ≤ k → k ≠ 19 → e_I h' (m + k) = e_I h (m + k) := fun k h1 h2 => funext fun j => x.I _ _ (by unfold TWm; omega)
  have FJ : ∀ k, 1 ≤ k → k ≠ 19 → e_J h' (m + k) = e_J h (m + k) := fun k h1 h2 => funext fun j => x.J _ _ (by unfold TWm; omega)
  have F0 : ∀ j, j ≠ 0 → j ≠ 36 → e_I h' m j = e_I h m j := fun j h1 h2 => x.I _ _ (by unfold TWm; omega)
  rw [hS]
  refine ⟨w.sh.mf (fun a _ _ => by rw [x.k]) (by rw [x.R]), (F0 2 (by decide) (by decide)).trans w.tl, ?_, ?_, ?_, ?_, ?_, ?_, ?_, ?_, xm, tx, ?_, ?_⟩
  · rw [FI 1 (by decide) (by decide)]; exact w.tp
  · exact (F0 10 (by decide) (by decide)).trans w.fault
  · exact (F0 12 (by decide) (by decide)).trans w.why
  · rw [FI 2 (by decide) (by decide), FJ 7 (by decide) (by decide), FJ 10 (by decide) (by decide)]; exact w.c
  · exact (F0 27 (by decide) (by decide)).trans w.um
  · rw [FI 6 (by decide) (by decide), FJ 9 (by decide) (by decide)]; exact w.ud
  · exact (F0 33 (by decide) (by decide)).trans w.fm
  · rw [FI 18 (by decide) (by decide)]; exact w.fo
  · rw [FI 13 (by decide) (by decide)]; exact w.has
  · rw [FI 5 (by decide) (by decide), FJ 11 (by decide) (by decide), FJ 12 (by decide) (by decide)]; exact w.im
section
variable {m F : Nat} {S : St} {h0 : e_H}
theorem putM (w : RM m h0 S) {h : e_H} {l : List Int32} (t : TxM m h0 h l) (hl : l.length < 200) (c : Int32) : Ok (f_X10_put h m c) fun h' => TxM m h0 h' (l ++ [c]) := by
  obtain ⟨mf, e, r⟩ := t
  have km : e_k h m = some (.inl 8) := by rw [mf.k]; exact w.sh.1
  have k19 : e_k h (m + 19) = some (.inr (0, 200)) := by rw [mf.k]; exact w.kk 18 35 0 200 rfl
  unfold f_X10_put
  refine Ok.eq (p_fA km (by rw [mf.R]; exact (w.sh.2 18 (35, 0, 200) rfl).1)) (Ok.eq (v := nI l.length) (by rw [p_fI km, e]) (Ok.eq (p_wI k19 hl (by decide) _) ?_))
  have km1 : e_k (e_sI h (m + 19) l.length c) m = some (.inl 8) := km
  refine Ok.eq (v := nI l.length) (by rw [p_fI km1, e_I_sI, if_neg (by omega), e]) (Ok.gI km1 (Ok.ret ⟨(mf.sI _ (Or.inr rfl)).sI _ (Or.inl ⟨rfl, Or.inr rfl⟩), ?_, fun i hi => ?_⟩))
  · rw [e_I_sI, if_pos ⟨rfl, rfl⟩, List.length_append, ← nI_succ]; rfl
  · rw [List.length_append] at hi
    rw [e_I_sI, if_neg (by omega), e_I_sI, getD_app]
    by_cases q : i = l.length
    · rw [if_pos ⟨rfl, q⟩, if_pos q]
    · rw [if_neg (fun z => q z.2), if_neg q]
      exact r i (by simp at hi; omega)
theorem TxM.km (w : RM m h0 S) {h : e_H} {l : List Int32} (t : TxM m h0 h l) : e_is h m 8 = some () := p_is (by rw [t.1.k]; exact w.sh.1)
theorem putSignedM (w : RM m h0 S) {h : e_H} {l : List Int32} (t : TxM m h0 h l) (hl : l.length + 3 ≤ 200) (v : Int32) : Ok (f_X10_putSigned h m v) fun h' => TxM m h0 h' (l ++ numL v) := by
  unfold f_X10_putSigned
  refine Ok.eq (t.km w) (Ok.bind (putM w t (by omega) 32) fun h1 t1 => ?_)
  by_cases q : 0 ≤ v
  · rw [if_pos q]
    refine Ok.sm (Ok.eq (f_size v) (Ok.eq (t1.km w) (Ok.bind (putM w t1 (by simp; omega) _) fun h2 t2 => Ok.ret ?_)))
    have : l ++ [32] ++ [48 + g_abs v] = l ++ numL v := by unfold numL; rw [if_pos q, List.append_assoc]; rfl
    rw [← this]; exact t2
  · rw [if_neg q]
    refine Ok.bind (R := fun h2 => TxM m h0 h2 (l ++ [32] ++ [45])) (Ok.eq (t1.km w) (Ok.bind (putM w t1 (by simp; omega) 45) fun h2 t2 => Ok.ret t2)) fun h2 t2 => ?_
    refine Ok.eq (f_size v) (Ok.eq (t2.km w) (Ok.bind (putM w t2 (by simp; omega) _) fun h3 t3 => Ok.ret ?_))
    have : l ++ [32] ++ [45] ++ [48 + g_abs v] = l ++ numL v := by unfold numL; rw [if_neg q, List.append_assoc, List.append_assoc]; rfl
    rw [← this]; exact t3
theorem TWm_MV {h : e_H} (w : RM m h0 S) {l : List Int32} (t : TxM m h0 h l) {k : Nat} (hk : k < S.c.m) : MO h m (m + 2) ∧ RB h (m + 2) 512 k (S.c.bd k) := by
  have v := w.view
  have g := v.bs k hk
  have e2 : e_I h (m + 2) = e_I h0 (m + 2) := funext fun j => t.1.I _ _ (by unfold TWm; omega)
  exact ⟨⟨by rw [t.1.k]; exact v.o.k, by rw [t.1.R]; exact v.o.r⟩, ⟨by rw [t.1.k]; exact g.k, g.s1, g.s2, g.b8, by rw [e2]; exact g.n, g.pos, g.le, by rw [e2]; exact g.x, by rw [e2]; exact g.y⟩⟩
theorem RM.write {h : e_H} (wf : RM m h S) (hf : ∀ j, j < S.c.m → (S.c.bd j).fit) (hF : 20 < F) (v : Int32) : Ok (f_X10_write F h m v) fun z => z.1 = S.vWrite v ∧ RM m z.2 (S.write v) ∧ MF (fun a _ => MA m a) h z.2 := by
  have w := wf.thr 0
  have x0 : MF (fun a _ => MA m a) h (e_sI h m 0 0) := (MF.rf _ h).sI _ (by unfold MA; omega)
  have m8 := w.view.m8
  unfold f_X10_write St.vWrite St.write
  refine Ok.gI wf.sh.1 (Ok.eq w.view.o.is (Ok.eq (w.view.isBand v) ?_))
  cases q : S.c.isB v with
  | false => exact Ok.ret ⟨rfl, w, x0⟩
  | true =>
    obtain ⟨k, rfl, hk⟩ := Im.isB_of q m8
    have g := w.view.bs k hk
    have hP := hf k hk
    have h0' := g.pos
    have h8 := g.le
    rw [if_neg (show ¬ b2i true = 0 by decide)]
    simp only [if_true, Im.vB, nI_clamp (show k < 2 ^ 31 by omega)]
    obtain ⟨P, hPP⟩ : ∃ P, P = S.c.bd k := ⟨_, rfl⟩
    have tv : ∀ {h2 l}, TxM m (e_sI h m 0 0) h2 l → MO h2 m (m + 2) ∧ RB h2 (m + 2) 512 k P := fun t => by rw [hPP]; exact TWm_MV w t hk
    rw [← hPP] at g hP h0' h8 ⊢
    have o := w.view.o
    refine Ok.eq (o.fn g) (Ok.eq (v := sumTo (fun i => g_sg (P.x (P.nx i) - P.x i) + g_sg (P.y (P.nx i) - P.y i)) P.n) ?_ ?_)
    · refine lp_sumI (fun i v f hi => ?_) (fun v f => ?_) (by omega)
      · simp only [lp_X10_write_26, g.nle hi, if_false, o.x0 g hi, o.y0 g hi, ← nI_succ, o.x1 g hi, o.y1 g hi, f_sign, Option.bind_some]
      · simp only [lp_X10_write_26, Int32.le_refl, if_true]
    · refine Ok.eq (v := if bestFw P = true then 1 else -1) ?_ ?_
      · have hs := short_way hP h0'
        unfold bestFw
        by_cases z : negA P false < negA P true
        · rw [if_pos (by rw [hs]; exact z), decide_eq_true z]; rfl
        · rw [if_neg (by rw [hs]; exact z), decide_eq_false z]; rfl
      · obtain ⟨fw, hfw⟩ : ∃ fw, fw = bestFw P := ⟨_, rfl⟩
        have hbl : bestL P = wrL P 0 fw P.n := by rw [hfw]; rfl
        rw [← hfw, hbl]
        refine Ok.gI w.sh.1 ?_
        have t0 : TxM m (e_sI h m 0 0) (e_sI (e_sI h m 0 0) m 36 0) [] := ⟨(MF.rf _ _).sI _ (Or.inl ⟨rfl, Or.inr rfl⟩), by rw [e_I_sI, if_pos ⟨rfl, rfl⟩]; rfl, fun i hi => absurd hi (Nat.not_lt_zero i)⟩
        have n3 := numL_le (P.x 0)
        have n4 := numL_le (P.y 0)
        refine Ok.eq (t0.km w) (Ok.bind (putM w t0 (by decide) 97) fun h1 t1 => Ok.eq (t1.km w) (Ok.bind (putM w t1 (by decide) 116) fun h2 t2 => Ok.eq (t2.km w) (Ok.eq ((tv t2).1.x0 (tv t2).2 h0') (Ok.bind (putSignedM w t2 (by decide) _) fun h3 t3 => Ok.eq (t3.km w) (Ok.eq ((tv t3).1.y0 (tv t3).2 h0') (Ok.bind (putSignedM w t3 (by simp; omega) _) fun h4 t4 => Ok.eq (t4.km w) (Ok.bind (putM w t4 (by simp; omega) 59) fun h5 t5 => ?_)))))))
        have t5 : TxM m (e_sI h m 0 0) h5 (headL P 0) := t5
        refine Ok.bind (R := fun h' => TxM m (e_sI h m 0 0) h' (wrL P 0 fw P.n)) ?_ fun h' t => ?_
        · refine Ok.loopC2 (lp := lp_X10_write_139 F m (nI k) (nI P.n) (if fw = true then 1 else -1)) (fun i x h' => x = nI i ∧ TxM m (e_sI h m 0 0) h' (wrL P 0 fw i)) P.n (fun i x h' fu hi ⟨e, t⟩ nx => ?_) (fun x h' fu ⟨e, t⟩ => ?_) (by omega) ⟨rfl, t5⟩
          · subst e
            have hgi := goN_lt (fw := fw) h0' i
            have hgj := goN_lt (fw := fw) h0' (i + 1)
            have hlen := wrL_le hP fw h0' (show i ≤ P.n by omega)
            have n0 : ¬ nI P.n = 0 := by rw [p_e0 (by omega)]; omega
            have ci : (if (if fw = true then (1 : Int32) else -1) ≤ 0 then (if nI P.n = 0 then (none : Option Int32) else some (nI P.n - nI i - (nI P.n - nI i) / nI P.n * nI P.n)) else some (nI i)) = some (nI (P.goN fw 0 i)) := by
              cases fw with
              | true => rw [if_neg (by decide), goN_fw h0', Nat.zero_add, Nat.mod_eq_of_lt hi]
              | false =>
                rw [if_pos (by decide), if_neg n0, p_sub (by omega), pk_rem (by omega) h0' (by omega), goN_bw h0' (by omega), Nat.zero_add]
            have cj : ∃ j, j < 10000 ∧ j % P.n = P.goN fw 0 (i + 1) ∧ (if (if fw = true then (1 : Int32) else -1) ≤ 0 then some (nI P.n - nI i - 1) else some (nI i + 1)) = some (nI j) := by
              cases fw with
              | true => exact ⟨i + 1, by omega, by rw [goN_fw h0', Nat.zero_add], by rw [if_neg (by decide), ← nI_succ]⟩
              | false => exact ⟨P.n - i - 1, by omega, by rw [goN_bw h0' (by omega), Nat.zero_add]; congr 1, by rw [if_pos (by decide), p_sub (by omega), show (1 : Int32) = nI 1 from rfl, p_sub (by omega)]⟩
            obtain ⟨j, hj1, hj2, cj⟩ := cj
            have ri : ∀ {h2 l}, TxM m (e_sI h m 0 0) h2 l → f_X10_x h2 m (nI k) (nI (P.goN fw 0 i)) = some (P.x (P.goN fw 0 i)) ∧ f_X10_y h2 m (nI k) (nI (P.goN fw 0 i)) = some (P.y (P.goN fw 0 i)) := fun t => ⟨(tv t).1.x0 (tv t).2 hgi, (tv t).1.y0 (tv t).2 hgi⟩
            have rj : ∀ {h2 l}, TxM m (e_sI h m 0 0) h2 l → f_X10_x h2 m (nI k) (nI j) = some (P.x (P.goN fw 0 (i + 1))) ∧ f_X10_y h2 m (nI k) (nI j) = some (P.y (P.goN fw 0 (i + 1))) := fun t => ⟨by rw [(tv t).1.ax (tv t).2 hj1, hj2], by rw [(tv t).1.ay (tv t).2 hj1, hj2]⟩
            have n3 := numL_le (P.x (P.goN fw 0 (i + 1)) - P.x (P.goN fw 0 i))
            have n4 := numL_le (P.y (P.goN fw 0 (i + 1)) - P.y (P.goN fw 0 i))
            unfold lp_X10_write_139
            rw [if_neg (by rw [g.nle hi]; exact id)]
            refine Ok.eq ci (Ok.eq cj (Ok.eq (t.km w) (Ok.bind (putM w t (by omega) 98) fun h1 t1 => Ok.eq (t1.km w) (Ok.bind (putM w t1 (by simp; omega) 121) fun h2 t2 => Ok.eq (t2.km w) (Ok.eq (rj t2).1 (Ok.eq (ri t2).1 (Ok.bind (putSignedM w t2 (by simp; omega) _) fun h3 t3 => Ok.eq (t3.km w) (Ok.eq (rj t3).2 (Ok.eq (ri t3).2 (Ok.bind (putSignedM w t3 (by simp; omega) _) fun h4 t4 => Ok.eq (t4.km w) (Ok.bind (putM w t4 (by simp; omega) 59) fun h5 t5 => Ok.sm ?_)))))))))))
            rw [← nI_succ]
            refine nx _ _ ⟨rfl, ?_⟩
            have : wrL P 0 fw i ++ [98] ++ [121] ++ numL (P.x (P.goN fw 0 (i + 1)) - P.x (P.goN fw 0 i)) ++ numL (P.y (P.goN fw 0 (i + 1)) - P.y (P.goN fw 0 i)) ++ [59] = wrL P 0 fw (i + 1) := by
              simp only [wrL, stepL, List.append_assoc, List.cons_append, List.nil_append]
            rw [← this]; exact t5
          · subst e
            unfold lp_X10_write_139
            rw [if_pos (Int32.le_refl _)]
            exact Ok.ret t
        · refine Ok.eq (v := nI (wrL P 0 fw P.n).length) (by rw [p_fI (by rw [t.1.k]; exact w.sh.1), t.2.1]) (Ok.ret ⟨rfl, ?_, x0.tr (t.1.mono fun a j z => by unfold TWm at z; unfold MA; omega)⟩)
          exact w.toText t.1 rfl t.2.1 fun i hi => t.2.2 i hi
end
