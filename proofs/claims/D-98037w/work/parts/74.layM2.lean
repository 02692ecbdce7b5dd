/-! PURE LAYER 35: lay, the model's side -/
section
variable {m F : Nat} {S : St}
theorem RM.lay {h : e_H} (w0 : RM m h S) (bn : Bn S) (hF : 3000 < F) : Ok (f_X10_lay F h m) fun z => z.1 = S.vLay ∧ RM m z.2 S.lay ∧ MF (fun a _ => MA m a) h z.2 := by
  have w := w0.thr 0
  have x0 : MF (fun a _ => MA m a) h (e_sI h m 0 0) := (MF.rf _ h).sI _ (by unfold MA; omega)
  have hle := w.c.cl.le
  have m8 := w.view.m8
  unfold f_X10_lay St.vLay St.lay St.canLay
  have r241 : e_aI (e_sI h m 0 0) (m + 2) 0 241 = some (b2i (decide (0 < S.c.c.n))) := by rw [show (241 : Int32) = nI 241 from rfl, w.rdN (by decide), w.c.cl.has]
  refine Ok.gI w0.sh.1 (Ok.eq w.view.o.now (Ok.eq r241 ?_))
  by_cases q : S.c.c.n = 0
  · rw [if_pos q, decide_eq_false (show ¬ 0 < S.c.c.n by omega)]
    exact Ok.ret ⟨rfl, w, x0⟩
  · rw [if_neg q, decide_eq_true (show 0 < S.c.c.n by omega), if_neg (show ¬ b2i true = 0 by decide)]
    refine Ok.eq (w.c.cl.doClose w.view.o w.now512 (show 9 < F by omega)) ?_
    cases hc : S.c.c.closed with
    | false => exact Ok.ret ⟨rfl, w, x0⟩
    | true =>
      rw [if_neg (show ¬ b2i true = 0 by decide), if_pos rfl]
      refine Ok.bind (layRead w (by omega)) fun h1 ⟨mf1, r1⟩ => ?_
      have w1 := w.mf mf1 fun a j z => by have := z.1; unfold MW; omega
      refine Ok.is w1.sh.1 (Ok.eq w1.view.bands ?_)
      refine Ok.bind (layCalls w1 (by omega) (show 20 < F by omega) (slot := S.c.m) m8 (k0 := -1) (dx := 0) (dy := 0) (k := S.c.c.n) (fun j hj => ⟨fun e => by
        exfalso
        have := congrArg Int32.toInt e
        rw [nI_toInt (by omega), show (-1 : Int32).toInt = -1 from rfl] at this
        omega, fun e => by omega⟩) (fun z => by omega)) fun h2 ⟨mf2, gb⟩ => ?_
      have w2 := w1.mf mf2 fun a j z => by have := z.1; unfold MW; omega
      have x2 : MF (fun a _ => MA m a) h h2 := (x0.tr (mf1.mono (V := fun a _ => MA m a) fun a j z => by have := z.1; unfold MA; omega)).tr (mf2.mono fun a j z => by have := z.1; unfold MA; omega)
      obtain ⟨P, hP⟩ : ∃ P, P = callB S.c.c S.c.c.n := ⟨_, rfl⟩
      rw [← hP] at gb
      have hnm : P.nm = [] := by rw [hP]; rfl
      have hW : S.wLay = S.c.d.wrong S.c.m S.c.bd S.c.m P := by rw [hP]; rfl
      rw [hW, ← hP]
      have row := w.c.row
      have same : ∀ j, j < 105 + 17 * S.c.m → j < 241 → e_I h2 (m + 3) j = e_I (e_sI h m 0 0) (m + 2) j := fun j hj hj2 => by rw [mf2.I _ _ (by omega), r1 j hj2]
      have hd : MHd (e_I h2 (m + 3)) S.c.d := row.hd.congr fun j hj => same j (by omega) (by omega)
      have kr := w2.kk 2 16 0 258 rfl
      have rb : RB h2 (m + 3) 258 S.c.m P := gb.rb kr (by decide) (by decide) m8
      have gbo : ∀ o, o < S.c.m → MBd (e_I h2 (m + 3)) o (S.c.bd o) := fun o ho => (row.bb o ho).congr fun j hj => same _ (by omega) (by omega)
      have rh : RH h2 (m + 3) 258 S.c.d := ⟨kr, by decide, by decide, hd.w10, hd.h10, hd.w, hd.hh, hd.bell, hd.outs, hd.out⟩
      have wr := rb.wrong (m := S.c.m) (bd := S.c.bd) rh (show 20 < F by omega) m8 (fun o ho _ => (gbo o ho).rb kr (by decide) (by decide) (by omega))
      refine Ok.eq (w2.f0 2 16 0 258 rfl) (Ok.eq w2.view.bands (Ok.eq w2.view.bands (Ok.eq wr ?_)))
      rcases Hd.wrong_v S.c.d S.c.m S.c.bd S.c.m P with hz | ⟨hz1, hz2⟩
      · rw [hz, if_pos rfl, if_pos rfl, decide_eq_true (rfl : (0 : Int32) = 0)]
        refine Ok.eq w2.view.bands ?_
        by_cases m7 : S.c.m = 8
        · rw [if_pos (show nI S.c.m = 8 by rw [m7]; rfl), if_pos m7, decide_eq_false (show ¬ S.c.m < 8 by omega)]
          exact Ok.ret ⟨rfl, w2, x2⟩
        · rw [if_neg (show ¬ nI S.c.m = 8 by rw [show (8 : Int32) = nI 8 from rfl, p_eq (by omega) (by omega)]; exact m7), if_neg m7, decide_eq_true (show S.c.m < 8 by omega)]
          simp only [Bool.and_self, if_true]
          refine Ok.bind (snapShot w2 bn hF) fun h3 ⟨mf3, w3⟩ => ?_
          refine Ok.bind (copyI (lp := lp_X10_lay_83 F m) (s := m + 3) (d := m + 2) (by omega) id id 241 (fun i j _ _ e => e) (fun f i h' hi mf => ?_) (fun f h' mf => ?_) (show 241 < F by omega)) fun h4 ⟨mf4, r4⟩ => ?_
          · have km : e_k h' m = some (.inl 8) := by rw [mf.k]; exact w3.sh.1
            have e15 : e_fA h' m 8 15 = some (m + 2) := p_fA km (by rw [mf.R]; exact (w3.sh.2 1 (15, 0, 512) rfl).1)
            have e16 : e_fA h' m 8 16 = some (m + 3) := p_fA km (by rw [mf.R]; exact (w3.sh.2 2 (16, 0, 258) rfl).1)
            have c2 : e_k h' (m + 2) = some (.inr (0, 512)) := by rw [mf.k]; exact w3.kk 1 15 0 512 rfl
            have c3 : e_k h' (m + 3) = some (.inr (0, 258)) := by rw [mf.k]; exact w3.kk 2 16 0 258 rfl
            have hle : ((241 : Int32) ≤ nI i) = False := by rw [show (241 : Int32) = nI 241 from rfl, p_le (by omega) (by omega)]; simp; omega
            simp only [lp_X10_lay_83, hle, if_false, e15, e16, p_aI c3 (show i < 258 by omega) (by decide), p_wI c2 (show i < 512 by omega) (by decide), Option.bind_some, ← nI_succ]
            rfl
          · simp only [lp_X10_lay_83, show (241 : Int32) ≤ nI 241 from Int32.le_refl _, if_true]
          · have km4 : e_k h4 m = some (.inl 8) := by rw [mf4.k]; exact w3.sh.1
            have e20 : e_fA h4 m 8 20 = some (m + 7) := p_fA km4 (by rw [mf4.R]; exact (w3.sh.2 6 (20, 3, 8) rfl).1)
            have e15 : e_fA h4 m 8 15 = some (m + 2) := p_fA km4 (by rw [mf4.R]; exact (w3.sh.2 1 (15, 0, 512) rfl).1)
            have k2 : e_k h4 (m + 2) = some (.inr (0, 512)) := by rw [mf4.k]; exact w3.kk 1 15 0 512 rfl
            have k7 : e_k h4 (m + 7) = some (.inr (3, 8)) := by rw [mf4.k]; exact w3.kk 6 20 3 8 rfl
            have now4 : ∀ j, j < 241 → e_I h4 (m + 2) j = e_I h2 (m + 3) j := fun j hj => by
              rw [show e_I h4 (m + 2) j = e_I h4 (m + 2) (id j) from rfl, r4 j hj]; exact mf3.I _ _ (by omega)
            have v4 : e_I h4 (m + 2) 4 = nI S.c.m := by rw [now4 4 (by decide), same 4 (by omega) (by decide)]; exact row.mm
            have e4 : e_aI h4 (m + 2) 0 4 = some (nI S.c.m) := by rw [show (4 : Int32) = nI 4 from rfl, p_aI k2 (by decide) (by decide), v4]
            have eb : f_X10_bands h4 m = some (nI S.c.m) := by simp only [f_X10_bands, e15, e4, Option.bind_some]
            refine Ok.eq e20 (Ok.eq eb (Ok.eq (p_wJ k7 (show S.c.m < 8 by omega) (by decide) _) ?_))
            obtain ⟨h5, hh5⟩ : ∃ z, z = e_sJ h4 (m + 7) S.c.m 0 := ⟨_, rfl⟩
            rw [← hh5]
            have k5 : ∀ a, e_k h5 a = e_k h4 a := fun a => by rw [hh5]; rfl
            have e15' : e_fA h5 m 8 15 = some (m + 2) := p_fA (by rw [k5]; exact km4) (by rw [hh5]; show e_R h4 m 15 = _; rw [mf4.R]; exact (w3.sh.2 1 (15, 0, 512) rfl).1)
            have k25 : e_k h5 (m + 2) = some (.inr (0, 512)) := by rw [k5]; exact k2
            have e45 : e_aI h5 (m + 2) 0 4 = some (nI S.c.m) := by rw [show (4 : Int32) = nI 4 from rfl, p_aI k25 (by decide) (by decide)]; rw [hh5]; exact congrArg some v4
            refine Ok.eq e15' (Ok.eq e45 (Ok.eq (p_wI' k25 (rfl : (4 : Int32) = nI 4) (by decide) (by decide) _) (Ok.ret ⟨rfl, ?_, ?_⟩)))
            · rw [← nI_succ]
              have X : MF (fun a j => (a = m + 2 ∧ j < 241) ∨ a = m + 7) h3 (e_sI h5 (m + 2) 4 (nI (S.c.m + 1))) := by
                rw [hh5]
                exact ((mf4.mono fun a j z => by obtain ⟨z1, k, z2, z3⟩ := z; simp only [id] at z3; omega).sJ _ (Or.inr rfl)).sI _ (Or.inl ⟨rfl, by decide⟩)
              have I5 : ∀ j, j ≠ 4 → j < 241 → e_I (e_sI h5 (m + 2) 4 (nI (S.c.m + 1))) (m + 2) j = e_I h2 (m + 3) j := fun j h1 h2' => by
                rw [e_I_sI, if_neg (fun y => h1 y.2), hh5]; exact now4 j h2'
              refine w3.upd X (fun a j z => by unfold UWm; omega) rfl ?_ ?_ fun i hi => ?_
              · have e10 : e_J (e_sI h5 (m + 2) 4 (nI (S.c.m + 1))) (m + 10) = e_J h3 (m + 10) := funext fun j => X.J _ _ (by omega)
                rw [e10]
                refine w3.c.row' (fun j h1 h2 => X.I _ _ (by omega)) ⟨?_, by omega, by rw [e_I_sI, if_pos ⟨rfl, rfl⟩], fun i hi => ?_, fun i hi => ?_⟩
                · refine ⟨hd.w10, hd.h10, ?_, ?_, ?_, ?_, fun i hi => ?_⟩
                  · rw [I5 _ (by omega) (by omega)]; exact hd.w
                  · rw [I5 _ (by omega) (by omega)]; exact hd.hh
                  · rw [I5 _ (by omega) (by omega)]; exact hd.bell
                  · rw [I5 _ (by omega) (by omega)]; exact hd.outs
                  · rw [I5 _ (by omega) (by omega)]; exact hd.out i hi
                · by_cases z : i = S.c.m
                  · subst z
                    rw [putB_k]
                    exact gb.congr fun j hj => I5 _ (by omega) (by omega)
                  · rw [putB_ne _ _ z]
                    exact (gbo i (by omega)).congr fun j hj => I5 _ (by omega) (by omega)
                · rw [e_J_sI, hh5, e_J_sJ]
                  by_cases z : i = S.c.m
                  · rw [if_pos ⟨rfl, z⟩, z, putB_k, hnm]; rfl
                  · rw [if_neg (fun y => z y.2), putB_ne _ _ z, mf4.J _ _ (by omega)]
                    exact w3.c.row.nm i (by show i < S.c.m; omega)
              · rw [X.I _ _ (by omega)]; exact w3.um
              · have e6 : e_I (e_sI h5 (m + 2) 4 (nI (S.c.m + 1))) (m + 6) = e_I h3 (m + 6) := funext fun j => X.I _ _ (by omega)
                have e9 : e_J (e_sI h5 (m + 2) 4 (nI (S.c.m + 1))) (m + 9) = e_J h3 (m + 9) := funext fun j => X.J _ _ (by omega)
                rw [e6, e9]; exact w3.ud i hi
            · rw [hh5]
              exact (((x2.tr (mf3.mono fun a j z => by unfold MA; omega)).tr (mf4.mono fun a j z => by have := z.1; unfold MA; omega)).sJ _ (by unfold MA; omega)).sI _ (by unfold MA; omega)
      · rw [if_neg hz2, if_neg hz2, decide_eq_false hz2]
        exact Ok.ret ⟨rfl, w2, x2⟩
end
