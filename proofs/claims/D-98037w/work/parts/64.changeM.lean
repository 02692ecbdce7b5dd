/-! PURE LAYER 25: bands changed, the model's side -/
def St.setBds (S : St) (bd : Nat → Bd) : St := (St.mk S.tl S.tp S.fault S.why ((Im.mk S.c.d S.c.m (bd) S.c.c S.c.lm S.c.la S.c.lb S.c.sn)) S.um S.ud S.fm S.fo S.xm S.tx S.im)
theorem Hd.wrong_congr {d : Hd} {m k : Nat} {bd bd' : Nat → Bd} {P : Bd} (h : ∀ o, o < m → o ≠ k → bd o = bd' o) : d.wrong m bd k P = d.wrong m bd' k P := by
  have : d.wr5 m bd k P = d.wr5 m bd' k P := by
    unfold Hd.wr5
    congr 1
    refine anyTo_congr fun o ho => ?_
    by_cases q : o = k
    · simp [q]
    · rw [h o ho q]
  unfold Hd.wrong
  rw [this]
/-- one band put in place of another -/
def putB (bd : Nat → Bd) (k : Nat) (P : Bd) (j : Nat) : Bd := if j = k then P else bd j
theorem putB_k (bd : Nat → Bd) (k : Nat) (P : Bd) : putB bd k P k = P := by unfold putB; rw [if_pos rfl]
theorem putB_ne (bd : Nat → Bd) {k j : Nat} (P : Bd) (h : j ≠ k) : putB bd k P j = bd j := by unfold putB; rw [if_neg h]
noncomputable def St.chg (S : St) (k : Nat) (P : Bd) : St := if S.c.d.wrong S.c.m S.c.bd k P = 0 then S.keep.setBds (putB S.c.bd k P) else S
theorem Hd.wrong_v (d : Hd) (m : Nat) (bd : Nat → Bd) (k : Nat) (P : Bd) : d.wrong m bd k P = 0 ∨ (0 < d.wrong m bd k P ∧ ¬ d.wrong m bd k P = 0) := by
  unfold Hd.wrong
  repeat' split
  all_goals first | exact Or.inl rfl | exact Or.inr ⟨by decide, by decide⟩
section
variable {m F : Nat} {S : St}
theorem changeM {h : e_H} (w : RM m h S) (bn : Bn S) (hF : 3000 < F) {k : Nat} (hk : k < S.c.m) {P : Bd} (rd : MRow (e_I h (m + 3)) (e_J h (m + 7)) S.c.d S.c.m (putB S.c.bd k P)) :
    Ok (f_X10_change F h m (nI k)) fun z => z.1 = S.c.d.wrong S.c.m S.c.bd k P ∧ RM m z.2 (S.chg k P) ∧ MF (UWm m) h z.2 := by
  have m8 := rd.m8
  have k3 := w.kk 2 16 0 258 rfl
  have f16 := w.f0 2 16 0 258 rfl
  unfold f_X10_change St.chg
  refine Ok.eq f16 (Ok.eq f16 (Ok.eq (v := nI S.c.m) ?_ ?_))
  · rw [show (4 : Int32) = nI 4 from rfl, p_aI k3 (by decide) (by decide)]
    exact congrArg some rd.mm
  · have rb : ∀ o, o < S.c.m → RB h (m + 3) 258 o (putB S.c.bd k P o) := fun o ho => (rd.bb o ho).rb k3 (by decide) (by decide) (by omega)
    have wr := (rb k hk).wrong (rd.rh k3 (by decide) (by decide)) (show 20 < F by omega) m8 (fun o ho _ => rb o ho)
    rw [putB_k] at wr
    rw [Hd.wrong_congr (bd' := S.c.bd) (fun o _ ho => putB_ne _ _ ho)] at wr
    refine Ok.eq wr (Ok.ite (fun hz => ?_) (fun hz => ?_))
    · rw [if_pos hz, hz]
      refine Ok.bind (snapShot w bn hF) fun h1 ⟨mf1, w1⟩ => ?_
      refine Ok.bind (copyI (lp := lp_X10_change_27 F m) (s := m + 3) (d := m + 2) (by omega) id id 241 (fun i j _ _ e => e) (fun f i h' hi mf => ?_) (fun f h' mf => ?_) (show 241 < F by omega)) fun h2 ⟨mf2, r2⟩ => ?_
      · have km : e_k h' m = some (.inl 8) := by rw [mf.k]; exact w1.sh.1
        have e15 : e_fA h' m 8 15 = some (m + 2) := p_fA km (by rw [mf.R]; exact (w1.sh.2 1 (15, 0, 512) rfl).1)
        have e16 : e_fA h' m 8 16 = some (m + 3) := p_fA km (by rw [mf.R]; exact (w1.sh.2 2 (16, 0, 258) rfl).1)
        have c2 : e_k h' (m + 2) = some (.inr (0, 512)) := by rw [mf.k]; exact w1.kk 1 15 0 512 rfl
        have c3 : e_k h' (m + 3) = some (.inr (0, 258)) := by rw [mf.k]; exact w1.kk 2 16 0 258 rfl
        have hle : ((241 : Int32) ≤ nI i) = False := by rw [show (241 : Int32) = nI 241 from rfl, p_le (by omega) (by omega)]; simp; omega
        simp only [lp_X10_change_27, hle, if_false, e15, e16, p_aI c3 (show i < 258 by omega) (by decide), p_wI c2 (show i < 512 by omega) (by decide), Option.bind_some, ← nI_succ]
        rfl
      · simp only [lp_X10_change_27, show (241 : Int32) ≤ nI 241 from Int32.le_refl _, if_true]
      · refine Ok.ret ⟨rfl, ?_, (mf1.mono fun a j z => by unfold UWm; omega).tr (mf2.mono fun a j z => by have := z.1; unfold UWm; omega)⟩
        refine w1.upd mf2 (fun a j z => by have := z.1; unfold UWm; omega) rfl ?_ ?_ ?_
        · have e7 : e_J h2 (m + 7) = e_J h (m + 7) := by
            funext j
            rw [mf2.J _ _ (by omega), mf1.J _ _ (by omega)]
          have e10 : e_J h2 (m + 10) = e_J h1 (m + 10) := funext fun j => mf2.J _ _ (by omega)
          rw [e7, e10]
          refine w1.c.row' (fun j h1 h2 => mf2.I _ _ (by rintro ⟨-, k', q1, q2⟩; simp only [id] at q2; omega)) ?_
          refine rd.congr (fun j hj => ?_) (fun _ _ => rfl)
          rw [show e_I h2 (m + 2) j = e_I h2 (m + 2) (id j) from rfl, r2 j hj]
          exact mf1.I _ _ (by omega)
        · rw [mf2.I _ _ (by omega)]; exact w1.um
        · intro i hi
          have e6 : e_I h2 (m + 6) = e_I h1 (m + 6) := funext fun j => mf2.I _ _ (by omega)
          have e9 : e_J h2 (m + 9) = e_J h1 (m + 9) := funext fun j => mf2.J _ _ (by omega)
          rw [e6, e9]
          exact w1.ud i hi
    · rw [if_neg hz]
      exact Ok.ret ⟨rfl, w, MF.rf _ h⟩
end
/-- one corner put elsewhere -/
def Bd.setC (P : Bd) (i : Nat) (u v : Int32) : Bd := Bd.mk P.n (fun j => if j = i then u else P.x j) (fun j => if j = i then v else P.y j) P.nm
noncomputable def St.vMove (S : St) (v i a : Int32) : Int32 := if (S.c.isC v i && S.c.d.at' a) = true then S.c.d.wrong S.c.m S.c.bd v.toNatClampNeg ((S.c.vB v).setC i.toNatClampNeg (a - a / 10 * 10) (a / 10)) else -1
noncomputable def St.move (S : St) (v i a : Int32) : St := if (S.c.isC v i && S.c.d.at' a) = true then S.chg v.toNatClampNeg ((S.c.vB v).setC i.toNatClampNeg (a - a / 10 * 10) (a / 10)) else S
def Bd.slid (P : Bd) (dx dy : Int32) : Bd := Bd.mk P.n (fun j => P.x j + dx) (fun j => P.y j + dy) P.nm
def nearS (dx dy : Int32) : Bool := g_in dx (-10) 10 && g_in dy (-10) 10
noncomputable def St.vSlide (S : St) (v dx dy : Int32) : Int32 := if S.c.isB v = true then (if nearS dx dy = true then S.c.d.wrong S.c.m S.c.bd v.toNatClampNeg ((S.c.vB v).slid dx dy) else 1) else -1
noncomputable def St.slide (S : St) (v dx dy : Int32) : St := if S.c.isB v = true then (if nearS dx dy = true then S.chg v.toNatClampNeg ((S.c.vB v).slid dx dy) else S) else S
theorem setC_x (P : Bd) (i : Nat) (u v : Int32) (j : Nat) : (P.setC i u v).x j = if j = i then u else P.x j := rfl
theorem setC_y (P : Bd) (i : Nat) (u v : Int32) (j : Nat) : (P.setC i u v).y j = if j = i then v else P.y j := rfl
section
variable {m F : Nat} {S : St}
/-- the read row, one band in it new -/
theorem readRow {h : e_H} (w : RM m h S) {k : Nat} (hk : k < S.c.m) {P : Bd} (hn : P.n = (S.c.bd k).n) (hm : P.nm = (S.c.bd k).nm)
    (e : ∀ j, j < 241 → j < 105 + 17 * k + 1 ∨ 105 + 17 * k + 17 ≤ j → e_I h (m + 3) j = e_I h (m + 2) j) (ex : ∀ i, i < P.n → e_I h (m + 3) (105 + 17 * k + 1 + 2 * i) = P.x i) (ey : ∀ i, i < P.n → e_I h (m + 3) (105 + 17 * k + 2 + 2 * i) = P.y i) :
    MRow (e_I h (m + 3)) (e_J h (m + 7)) S.c.d S.c.m (putB S.c.bd k P) := by
  have r := w.c.row
  have m8 := r.m8
  have g := r.bb k hk
  refine ⟨r.hd.congr fun j hj => e j (by omega) (by omega), m8, by rw [e 4 (by decide) (by omega)]; exact r.mm, fun i hi => ?_, fun i hi => ?_⟩
  · by_cases q : i = k
    · subst q
      rw [putB_k]
      exact ⟨by rw [e _ (by omega) (by omega), hn]; exact g.n, by rw [hn]; exact g.pos, by rw [hn]; exact g.le, ex, ey⟩
    · rw [putB_ne _ _ q]
      exact (r.bb i hi).congr fun j hj => e _ (by omega) (by omega)
  · by_cases q : i = k
    · subst q
      rw [putB_k, hm]; exact r.nm i hi
    · rw [putB_ne _ _ q]; exact r.nm i hi
theorem RM.move {h : e_H} (w0 : RM m h S) (bn : Bn S) (hF : 3000 < F) (v i a : Int32) : Ok (f_X10_move F h m v i a) fun z => z.1 = S.vMove v i a ∧ RM m z.2 (S.move v i a) ∧ MF (fun a _ => MA m a) h z.2 := by
  have w := w0.thr 0
  have x0 : MF (fun a _ => MA m a) h (e_sI h m 0 0) := (MF.rf _ h).sI _ (by unfold MA; omega)
  have m8 := w.view.m8
  unfold f_X10_move St.vMove St.move
  refine Ok.gI w0.sh.1 ?_
  simp only [w.view.o.is, w.view.isBand, Option.bind_some]
  cases q : S.c.isC v i with
  | false =>
    unfold Im.isC at q
    cases q1 : S.c.isB v with
    | false => exact Ok.ret ⟨rfl, w, x0⟩
    | true =>
      obtain ⟨k, rfl, hk⟩ := Im.isB_of q1 m8
      have g := w.view.bs k hk
      rw [q1, Im.vB, nI_clamp (show k < 2 ^ 31 by omega)] at q
      by_cases q2 : i < 0
      · simp only [q2, b2i, if_true, show ¬ (1 : Int32) = 0 by decide, if_false]
        exact Ok.ret ⟨rfl, w, x0⟩
      · simp only [q2, decide_false, Bool.not_false, Bool.true_and, decide_eq_false_iff_not] at q
        rw [i_not_lt] at q
        simp only [q2, b2i, if_true, show ¬ (1 : Int32) = 0 by decide, if_false, w.view.o.fn g, Option.bind_some, q]
        exact Ok.ret ⟨rfl, w, x0⟩
  | true =>
    obtain ⟨k, j, rfl, rfl, hk, hj, hn⟩ := isC_of q m8 (fun j hj => w.view.n8 hj)
    have g := w.view.bs k hk
    have e1 : S.c.isB (nI k) = true := by unfold Im.isC at q; rw [Bool.and_eq_true] at q; exact q.1
    simp only [e1, b2i, if_true, show ¬ (1 : Int32) = 0 by decide, if_false, nI_pos (show j < 2 ^ 31 by omega), w.view.o.fn g, Option.bind_some, g.nle hj, w.view.isAt]
    cases qa : S.c.d.at' a with
    | false => exact Ok.ret ⟨rfl, w, x0⟩
    | true =>
      simp only [if_true, show ¬ (1 : Int32) = 0 by decide, if_false, Bool.and_self, Im.vB, nI_clamp (show k < 2 ^ 31 by omega), nI_clamp (show j < 2 ^ 31 by omega)]
      refine Ok.bind (layRead w (by omega)) fun h1 ⟨mf1, r1⟩ => ?_
      have w1 := w.mf mf1 fun a j z => by have := z.1; unfold MW; omega
      have k3 := w1.kk 2 16 0 258 rfl
      refine Ok.eq (w1.f0 2 16 0 258 rfl) (Ok.eq (p_wI' k3 (i_rx k j) (by omega) (by decide) _) ?_)
      obtain ⟨h2, hh2⟩ : ∃ z, z = e_sI h1 (m + 1 + 2) (105 + 17 * k + 1 + 2 * j) (a - a / 10 * 10) := ⟨_, rfl⟩
      rw [← hh2]
      have mf2 : MF (MW m) h1 h2 := by rw [hh2]; exact (MF.rf _ h1).sI _ (by unfold MW; omega)
      have w2 := w1.mf mf2 fun _ _ z => z
      refine Ok.eq (w2.f0 2 16 0 258 rfl) (Ok.eq (p_wI' (w2.kk 2 16 0 258 rfl) (i_ry k j) (by omega) (by decide) _) ?_)
      obtain ⟨h3, hh3⟩ : ∃ z, z = e_sI h2 (m + 1 + 2) (105 + 17 * k + 2 + 2 * j) (a / 10) := ⟨_, rfl⟩
      rw [← hh3]
      have mf3 : MF (MW m) h2 h3 := by rw [hh3]; exact (MF.rf _ h2).sI _ (by unfold MW; omega)
      have w3 := w2.mf mf3 fun _ _ z => z
      have e3 : ∀ q, e_I h3 (m + 3) q = if q = 105 + 17 * k + 2 + 2 * j then a / 10 else if q = 105 + 17 * k + 1 + 2 * j then a - a / 10 * 10 else e_I h1 (m + 3) q := by
        intro q
        rw [hh3, e_I_sI]
        by_cases z : q = 105 + 17 * k + 2 + 2 * j
        · rw [if_pos ⟨by omega, z⟩, if_pos z]
        · rw [if_neg (fun y => z y.2), if_neg z, hh2, e_I_sI]
          by_cases z2 : q = 105 + 17 * k + 1 + 2 * j
          · rw [if_pos ⟨by omega, z2⟩, if_pos z2]
          · rw [if_neg (fun y => z2 y.2), if_neg z2]
      have s2 : e_I h3 (m + 2) = e_I (e_sI h m 0 0) (m + 2) := by
        funext q
        rw [hh3, e_I_sI, if_neg (by omega), hh2, e_I_sI, if_neg (by omega)]
        exact mf1.I _ _ (by omega)
      refine Ok.is w3.sh.1 (Ok.b2 (changeM w3 bn hF hk (P := (S.c.bd k).setC j (a - a / 10 * 10) (a / 10)) ?_) fun u h4 ⟨c1, c2, c3⟩ => ?_)
      · have gb := (w.c.row.bb k hk)
        refine readRow w3 hk rfl rfl (fun q hq hz => ?_) (fun i hi => ?_) (fun i hi => ?_)
        · rw [e3, if_neg (by omega), if_neg (by omega), s2]; exact r1 q hq
        · have hi : i < (S.c.bd k).n := hi
          rw [e3, if_neg (by omega), setC_x]
          by_cases z : i = j
          · rw [if_pos (by omega), if_pos z]
          · rw [if_neg (by omega), if_neg z, r1 _ (by omega)]; exact gb.x i hi
        · have hi : i < (S.c.bd k).n := hi
          rw [e3, setC_y]
          by_cases z : i = j
          · rw [if_pos (by omega), if_pos z]
          · rw [if_neg (by omega), if_neg (by omega), if_neg z, r1 _ (by omega)]; exact gb.y i hi
      · refine Ok.ret ⟨c1, c2, ?_⟩
        have y1 : MF (fun a _ => MA m a) h h1 := x0.tr (mf1.mono fun a j z => by have := z.1; unfold MA; omega)
        have y2 : MF (fun a _ => MA m a) h1 h2 := by rw [hh2]; exact (MF.rf _ h1).sI _ (by unfold MA; omega)
        have y3 : MF (fun a _ => MA m a) h2 h3 := by rw [hh3]; exact (MF.rf _ h2).sI _ (by unfold MA; omega)
        exact ((y1.tr y2).tr y3).tr (c3.mono fun a j z => by unfold UWm MW at z; unfold MA; omega)
end
