/-! PURE LAYER 11: what both objects stand for -/
/-- a sentence: its last node; of a node its kind (1 not, 2 and, 3 or, 4 in, 5 alike, 6 bent, 7 .. 11 a count), its parts, a number, a sign, a name -/
def Sn : Type := (Nat) × (Nat → Nat) × (Nat → Nat) × (Nat → Nat) × (Nat → Int32) × (Nat → Int32) × (Nat → List Nat)
def Sn.root (z__ : Sn) : Nat := z__.1
def Sn.tag (z__ : Sn) : Nat → Nat := z__.2.1
def Sn.p (z__ : Sn) : Nat → Nat := z__.2.2.1
def Sn.q (z__ : Sn) : Nat → Nat := z__.2.2.2.1
def Sn.v (z__ : Sn) : Nat → Int32 := z__.2.2.2.2.1
def Sn.s (z__ : Sn) : Nat → Int32 := z__.2.2.2.2.2.1
def Sn.nm (z__ : Sn) : Nat → List Nat := z__.2.2.2.2.2.2
def Sn.mk (root_ : Nat) (tag_ : Nat → Nat) (p_ : Nat → Nat) (q_ : Nat → Nat) (v_ : Nat → Int32) (s_ : Nat → Int32) (nm_ : Nat → List Nat) : Sn := (root_, tag_, p_, q_, v_, s_, nm_)
theorem Sn.root_mk (root_ : Nat) (tag_ : Nat → Nat) (p_ : Nat → Nat) (q_ : Nat → Nat) (v_ : Nat → Int32) (s_ : Nat → Int32) (nm_ : Nat → List Nat) : (Sn.mk root_ tag_ p_ q_ v_ s_ nm_).root = root_ := rfl
theorem Sn.tag_mk (root_ : Nat) (tag_ : Nat → Nat) (p_ : Nat → Nat) (q_ : Nat → Nat) (v_ : Nat → Int32) (s_ : Nat → Int32) (nm_ : Nat → List Nat) : (Sn.mk root_ tag_ p_ q_ v_ s_ nm_).tag = tag_ := rfl
theorem Sn.p_mk (root_ : Nat) (tag_ : Nat → Nat) (p_ : Nat → Nat) (q_ : Nat → Nat) (v_ : Nat → Int32) (s_ : Nat → Int32) (nm_ : Nat → List Nat) : (Sn.mk root_ tag_ p_ q_ v_ s_ nm_).p = p_ := rfl
theorem Sn.q_mk (root_ : Nat) (tag_ : Nat → Nat) (p_ : Nat → Nat) (q_ : Nat → Nat) (v_ : Nat → Int32) (s_ : Nat → Int32) (nm_ : Nat → List Nat) : (Sn.mk root_ tag_ p_ q_ v_ s_ nm_).q = q_ := rfl
theorem Sn.v_mk (root_ : Nat) (tag_ : Nat → Nat) (p_ : Nat → Nat) (q_ : Nat → Nat) (v_ : Nat → Int32) (s_ : Nat → Int32) (nm_ : Nat → List Nat) : (Sn.mk root_ tag_ p_ q_ v_ s_ nm_).v = v_ := rfl
theorem Sn.s_mk (root_ : Nat) (tag_ : Nat → Nat) (p_ : Nat → Nat) (q_ : Nat → Nat) (v_ : Nat → Int32) (s_ : Nat → Int32) (nm_ : Nat → List Nat) : (Sn.mk root_ tag_ p_ q_ v_ s_ nm_).s = s_ := rfl
theorem Sn.nm_mk (root_ : Nat) (tag_ : Nat → Nat) (p_ : Nat → Nat) (q_ : Nat → Nat) (v_ : Nat → Int32) (s_ : Nat → Int32) (nm_ : Nat → List Nat) : (Sn.mk root_ tag_ p_ q_ v_ s_ nm_).nm = nm_ := rfl
def Cl : Type := (Nat) × (Int32) × (Int32) × (Nat → Int32) × (Nat → Int32)
def Cl.n (z__ : Cl) : Nat := z__.1
def Cl.x (z__ : Cl) : Int32 := z__.2.1
def Cl.y (z__ : Cl) : Int32 := z__.2.2.1
def Cl.dx (z__ : Cl) : Nat → Int32 := z__.2.2.2.1
def Cl.dy (z__ : Cl) : Nat → Int32 := z__.2.2.2.2
def Cl.mk (n_ : Nat) (x_ : Int32) (y_ : Int32) (dx_ : Nat → Int32) (dy_ : Nat → Int32) : Cl := (n_, x_, y_, dx_, dy_)
theorem Cl.n_mk (n_ : Nat) (x_ : Int32) (y_ : Int32) (dx_ : Nat → Int32) (dy_ : Nat → Int32) : (Cl.mk n_ x_ y_ dx_ dy_).n = n_ := rfl
theorem Cl.x_mk (n_ : Nat) (x_ : Int32) (y_ : Int32) (dx_ : Nat → Int32) (dy_ : Nat → Int32) : (Cl.mk n_ x_ y_ dx_ dy_).x = x_ := rfl
theorem Cl.y_mk (n_ : Nat) (x_ : Int32) (y_ : Int32) (dx_ : Nat → Int32) (dy_ : Nat → Int32) : (Cl.mk n_ x_ y_ dx_ dy_).y = y_ := rfl
theorem Cl.dx_mk (n_ : Nat) (x_ : Int32) (y_ : Int32) (dx_ : Nat → Int32) (dy_ : Nat → Int32) : (Cl.mk n_ x_ y_ dx_ dy_).dx = dx_ := rfl
theorem Cl.dy_mk (n_ : Nat) (x_ : Int32) (y_ : Int32) (dx_ : Nat → Int32) (dy_ : Nat → Int32) : (Cl.mk n_ x_ y_ dx_ dy_).dy = dy_ := rfl
/-- a board, its bands, calls, lines, a sentence -/
def Im : Type := (Hd) × (Nat) × (Nat → Bd) × (Cl) × (Nat) × (Nat → Nat) × (Nat → Nat) × (Option Sn)
def Im.d (z__ : Im) : Hd := z__.1
def Im.m (z__ : Im) : Nat := z__.2.1
def Im.bd (z__ : Im) : Nat → Bd := z__.2.2.1
def Im.c (z__ : Im) : Cl := z__.2.2.2.1
def Im.lm (z__ : Im) : Nat := z__.2.2.2.2.1
def Im.la (z__ : Im) : Nat → Nat := z__.2.2.2.2.2.1
def Im.lb (z__ : Im) : Nat → Nat := z__.2.2.2.2.2.2.1
def Im.sn (z__ : Im) : Option Sn := z__.2.2.2.2.2.2.2
def Im.mk (d_ : Hd) (m_ : Nat) (bd_ : Nat → Bd) (c_ : Cl) (lm_ : Nat) (la_ : Nat → Nat) (lb_ : Nat → Nat) (sn_ : Option Sn) : Im := (d_, m_, bd_, c_, lm_, la_, lb_, sn_)
theorem Im.d_mk (d_ : Hd) (m_ : Nat) (bd_ : Nat → Bd) (c_ : Cl) (lm_ : Nat) (la_ : Nat → Nat) (lb_ : Nat → Nat) (sn_ : Option Sn) : (Im.mk d_ m_ bd_ c_ lm_ la_ lb_ sn_).d = d_ := rfl
theorem Im.m_mk (d_ : Hd) (m_ : Nat) (bd_ : Nat → Bd) (c_ : Cl) (lm_ : Nat) (la_ : Nat → Nat) (lb_ : Nat → Nat) (sn_ : Option Sn) : (Im.mk d_ m_ bd_ c_ lm_ la_ lb_ sn_).m = m_ := rfl
theorem Im.bd_mk (d_ : Hd) (m_ : Nat) (bd_ : Nat → Bd) (c_ : Cl) (lm_ : Nat) (la_ : Nat → Nat) (lb_ : Nat → Nat) (sn_ : Option Sn) : (Im.mk d_ m_ bd_ c_ lm_ la_ lb_ sn_).bd = bd_ := rfl
theorem Im.c_mk (d_ : Hd) (m_ : Nat) (bd_ : Nat → Bd) (c_ : Cl) (lm_ : Nat) (la_ : Nat → Nat) (lb_ : Nat → Nat) (sn_ : Option Sn) : (Im.mk d_ m_ bd_ c_ lm_ la_ lb_ sn_).c = c_ := rfl
theorem Im.lm_mk (d_ : Hd) (m_ : Nat) (bd_ : Nat → Bd) (c_ : Cl) (lm_ : Nat) (la_ : Nat → Nat) (lb_ : Nat → Nat) (sn_ : Option Sn) : (Im.mk d_ m_ bd_ c_ lm_ la_ lb_ sn_).lm = lm_ := rfl
theorem Im.la_mk (d_ : Hd) (m_ : Nat) (bd_ : Nat → Bd) (c_ : Cl) (lm_ : Nat) (la_ : Nat → Nat) (lb_ : Nat → Nat) (sn_ : Option Sn) : (Im.mk d_ m_ bd_ c_ lm_ la_ lb_ sn_).la = la_ := rfl
theorem Im.lb_mk (d_ : Hd) (m_ : Nat) (bd_ : Nat → Bd) (c_ : Cl) (lm_ : Nat) (la_ : Nat → Nat) (lb_ : Nat → Nat) (sn_ : Option Sn) : (Im.mk d_ m_ bd_ c_ lm_ la_ lb_ sn_).lb = lb_ := rfl
theorem Im.sn_mk (d_ : Hd) (m_ : Nat) (bd_ : Nat → Bd) (c_ : Cl) (lm_ : Nat) (la_ : Nat → Nat) (lb_ : Nat → Nat) (sn_ : Option Sn) : (Im.mk d_ m_ bd_ c_ lm_ la_ lb_ sn_).sn = sn_ := rfl
def St : Type := (Nat) × (Nat → Nat) × (Int32) × (Int32) × (Im) × (Nat) × (Nat → Nat × (Nat → Bd)) × (Nat) × (Nat → Int32) × (Nat) × (Nat → Int32) × (Nat → Option Im)
def St.tl (z__ : St) : Nat := z__.1
def St.tp (z__ : St) : Nat → Nat := z__.2.1
def St.fault (z__ : St) : Int32 := z__.2.2.1
def St.why (z__ : St) : Int32 := z__.2.2.2.1
def St.c (z__ : St) : Im := z__.2.2.2.2.1
def St.um (z__ : St) : Nat := z__.2.2.2.2.2.1
def St.ud (z__ : St) : Nat → Nat × (Nat → Bd) := z__.2.2.2.2.2.2.1
def St.fm (z__ : St) : Nat := z__.2.2.2.2.2.2.2.1
def St.fo (z__ : St) : Nat → Int32 := z__.2.2.2.2.2.2.2.2.1
def St.xm (z__ : St) : Nat := z__.2.2.2.2.2.2.2.2.2.1
def St.tx (z__ : St) : Nat → Int32 := z__.2.2.2.2.2.2.2.2.2.2.1
def St.im (z__ : St) : Nat → Option Im := z__.2.2.2.2.2.2.2.2.2.2.2
def St.mk (tl_ : Nat) (tp_ : Nat → Nat) (fault_ : Int32) (why_ : Int32) (c_ : Im) (um_ : Nat) (ud_ : Nat → Nat × (Nat → Bd)) (fm_ : Nat) (fo_ : Nat → Int32) (xm_ : Nat) (tx_ : Nat → Int32) (im_ : Nat → Option Im) : St := (tl_, tp_, fault_, why_, c_, um_, ud_, fm_, fo_, xm_, tx_, im_)
theorem St.tl_mk (tl_ : Nat) (tp_ : Nat → Nat) (fault_ : Int32) (why_ : Int32) (c_ : Im) (um_ : Nat) (ud_ : Nat → Nat × (Nat → Bd)) (fm_ : Nat) (fo_ : Nat → Int32) (xm_ : Nat) (tx_ : Nat → Int32) (im_ : Nat → Option Im) : (St.mk tl_ tp_ fault_ why_ c_ um_ ud_ fm_ fo_ xm_ tx_ im_).tl = tl_ := rfl
theorem St.tp_mk (tl_ : Nat) (tp_ : Nat → Nat) (fault_ : Int32) (why_ : Int32) (c_ : Im) (um_ : Nat) (ud_ : Nat → Nat × (Nat → Bd)) (fm_ : Nat) (fo_ : Nat → Int32) (xm_ : Nat) (tx_ : Nat → Int32) (im_ : Nat → Option Im) : (St.mk tl_ tp_ fault_ why_ c_ um_ ud_ fm_ fo_ xm_ tx_ im_).tp = tp_ := rfl
theorem St.fault_mk (tl_ : Nat) (tp_ : Nat → Nat) (fault_ : Int32) (why_ : Int32) (c_ : Im) (um_ : Nat) (ud_ : Nat → Nat × (Nat → Bd)) (fm_ : Nat) (fo_ : Nat → Int32) (xm_ : Nat) (tx_ : Nat → Int32) (im_ : Nat → Option Im) : (St.mk tl_ tp_ fault_ why_ c_ um_ ud_ fm_ fo_ xm_ tx_ im_).fault = fault_ := rfl
theorem St.why_mk (tl_ : Nat) (tp_ : Nat → Nat) (fault_ : Int32) (why_ : Int32) (c_ : Im) (um_ : Nat) (ud_ : Nat → Nat × (Nat → Bd)) (fm_ : Nat) (fo_ : Nat → Int32) (xm_ : Nat) (tx_ : Nat → Int32) (im_ : Nat → Option Im) : (St.mk tl_ tp_ fault_ why_ c_ um_ ud_ fm_ fo_ xm_ tx_ im_).why = why_ := rfl
theorem St.c_mk (tl_ : Nat) (tp_ : Nat → Nat) (fault_ : Int32) (why_ : Int32) (c_ : Im) (um_ : Nat) (ud_ : Nat → Nat × (Nat → Bd)) (fm_ : Nat) (fo_ : Nat → Int32) (xm_ : Nat) (tx_ : Nat → Int32) (im_ : Nat → Option Im) : (St.mk tl_ tp_ fault_ why_ c_ um_ ud_ fm_ fo_ xm_ tx_ im_).c = c_ := rfl
theorem St.um_mk (tl_ : Nat) (tp_ : Nat → Nat) (fault_ : Int32) (why_ : Int32) (c_ : Im) (um_ : Nat) (ud_ : Nat → Nat × (Nat → Bd)) (fm_ : Nat) (fo_ : Nat → Int32) (xm_ : Nat) (tx_ : Nat → Int32) (im_ : Nat → Option Im) : (St.mk tl_ tp_ fault_ why_ c_ um_ ud_ fm_ fo_ xm_ tx_ im_).um = um_ := rfl
theorem St.ud_mk (tl_ : Nat) (tp_ : Nat → Nat) (fault_ : Int32) (why_ : Int32) (c_ : Im) (um_ : Nat) (ud_ : Nat → Nat × (Nat → Bd)) (fm_ : Nat) (fo_ : Nat → Int32) (xm_ : Nat) (tx_ : Nat → Int32) (im_ : Nat → Option Im) : (St.mk tl_ tp_ fault_ why_ c_ um_ ud_ fm_ fo_ xm_ tx_ im_).ud = ud_ := rfl
theorem St.fm_mk (tl_ : Nat) (tp_ : Nat → Nat) (fault_ : Int32) (why_ : Int32) (c_ : Im) (um_ : Nat) (ud_ : Nat → Nat × (Nat → Bd)) (fm_ : Nat) (fo_ : Nat → Int32) (xm_ : Nat) (tx_ : Nat → Int32) (im_ : Nat → Option Im) : (St.mk tl_ tp_ fault_ why_ c_ um_ ud_ fm_ fo_ xm_ tx_ im_).fm = fm_ := rfl
theorem St.fo_mk (tl_ : Nat) (tp_ : Nat → Nat) (fault_ : Int32) (why_ : Int32) (c_ : Im) (um_ : Nat) (ud_ : Nat → Nat × (Nat → Bd)) (fm_ : Nat) (fo_ : Nat → Int32) (xm_ : Nat) (tx_ : Nat → Int32) (im_ : Nat → Option Im) : (St.mk tl_ tp_ fault_ why_ c_ um_ ud_ fm_ fo_ xm_ tx_ im_).fo = fo_ := rfl
theorem St.xm_mk (tl_ : Nat) (tp_ : Nat → Nat) (fault_ : Int32) (why_ : Int32) (c_ : Im) (um_ : Nat) (ud_ : Nat → Nat × (Nat → Bd)) (fm_ : Nat) (fo_ : Nat → Int32) (xm_ : Nat) (tx_ : Nat → Int32) (im_ : Nat → Option Im) : (St.mk tl_ tp_ fault_ why_ c_ um_ ud_ fm_ fo_ xm_ tx_ im_).xm = xm_ := rfl
theorem St.tx_mk (tl_ : Nat) (tp_ : Nat → Nat) (fault_ : Int32) (why_ : Int32) (c_ : Im) (um_ : Nat) (ud_ : Nat → Nat × (Nat → Bd)) (fm_ : Nat) (fo_ : Nat → Int32) (xm_ : Nat) (tx_ : Nat → Int32) (im_ : Nat → Option Im) : (St.mk tl_ tp_ fault_ why_ c_ um_ ud_ fm_ fo_ xm_ tx_ im_).tx = tx_ := rfl
theorem St.im_mk (tl_ : Nat) (tp_ : Nat → Nat) (fault_ : Int32) (why_ : Int32) (c_ : Im) (um_ : Nat) (ud_ : Nat → Nat × (Nat → Bd)) (fm_ : Nat) (fo_ : Nat → Int32) (xm_ : Nat) (tx_ : Nat → Int32) (im_ : Nat → Option Im) : (St.mk tl_ tp_ fault_ why_ c_ um_ ud_ fm_ fo_ xm_ tx_ im_).im = im_ := rfl
/-- names, as the component and as the model hold them -/
def n256 (l : List Nat) : Nat := l.foldl (fun v c => v * 256 + c) 0
def n27 (l : List Nat) : Nat := l.foldl (fun v c => 27 * v + (c - 96)) 0
def e256 (l : List Nat) : Int64 := Int64.ofNat (n256 l)
def e27 (l : List Nat) : Int64 := Int64.ofNat (n27 l)
/-- a byte as the component holds it -/
def sbyte (n : Nat) : Int32 := (nI n).toInt8.toInt32
/-! what changes -/
/-- old cells stay as they are but for the places W -/
def Fr (W : Nat → Nat → Prop) (h h' : e_H) : Prop :=
  (e_n h ≤ e_n h') ∧
  (e_u h ≤ e_u h') ∧
  (∀ a, a < e_n h → e_k h' a = e_k h a) ∧
  (∀ a j, a < e_n h → ¬ W a j → e_I h' a j = e_I h a j) ∧
  (∀ a j, a < e_n h → ¬ W a j → e_J h' a j = e_J h a j) ∧
  (∀ a j, a < e_n h → ¬ W a j → e_R h' a j = e_R h a j)
theorem Fr.n {W : Nat → Nat → Prop} {h h' : e_H} (w__ : Fr W h h') : e_n h ≤ e_n h' := w__.1
theorem Fr.u {W : Nat → Nat → Prop} {h h' : e_H} (w__ : Fr W h h') : e_u h ≤ e_u h' := w__.2.1
theorem Fr.k {W : Nat → Nat → Prop} {h h' : e_H} (w__ : Fr W h h') : ∀ a, a < e_n h → e_k h' a = e_k h a := w__.2.2.1
theorem Fr.I {W : Nat → Nat → Prop} {h h' : e_H} (w__ : Fr W h h') : ∀ a j, a < e_n h → ¬ W a j → e_I h' a j = e_I h a j := w__.2.2.2.1
theorem Fr.J {W : Nat → Nat → Prop} {h h' : e_H} (w__ : Fr W h h') : ∀ a j, a < e_n h → ¬ W a j → e_J h' a j = e_J h a j := w__.2.2.2.2.1
theorem Fr.R {W : Nat → Nat → Prop} {h h' : e_H} (w__ : Fr W h h') : ∀ a j, a < e_n h → ¬ W a j → e_R h' a j = e_R h a j := w__.2.2.2.2.2
section
variable {W : Nat → Nat → Prop} {h h1 h2 : e_H}
theorem Fr.rf (W : Nat → Nat → Prop) (h : e_H) : Fr W h h := ⟨Nat.le_refl _, Nat.le_refl _, fun _ _ => rfl, fun _ _ _ _ => rfl, fun _ _ _ _ => rfl, fun _ _ _ _ => rfl⟩
theorem Fr.tr (x : Fr W h h1) (y : Fr W h1 h2) : Fr W h h2 :=
  ⟨(Nat.le_trans x.n y.n),
  (Nat.le_trans x.u y.u),
  (fun a ha => (y.k a (Nat.lt_of_lt_of_le ha x.n)).trans (x.k a ha)),
  (fun a j ha w => (y.I a j (Nat.lt_of_lt_of_le ha x.n) w).trans (x.I a j ha w)),
  (fun a j ha w => (y.J a j (Nat.lt_of_lt_of_le ha x.n) w).trans (x.J a j ha w)),
  (fun a j ha w => (y.R a j (Nat.lt_of_lt_of_le ha x.n) w).trans (x.R a j ha w))⟩
theorem Fr.mono {V : Nat → Nat → Prop} (x : Fr W h h1) (hw : ∀ a j, W a j → V a j) : Fr V h h1 :=
  ⟨(x.n),
  (x.u),
  (x.k),
  (fun a j ha w => x.I a j ha fun q => w (hw a j q)),
  (fun a j ha w => x.J a j ha fun q => w (hw a j q)),
  (fun a j ha w => x.R a j ha fun q => w (hw a j q))⟩
theorem Fr.sI (x : Fr W h h1) {a k : Nat} (v : Int32) (hw : e_n h ≤ a ∨ W a k) : Fr W h (e_sI h1 a k v) :=
  ⟨(x.n),
  (x.u),
  (x.k),
  (fun b j hb w => by
    rw [e_I_sI, if_neg, x.I b j hb w]
    rintro ⟨rfl, rfl⟩
    rcases hw with q | q
    · omega
    · exact w q),
  (x.J),
  (x.R)⟩
theorem Fr.sJ (x : Fr W h h1) {a k : Nat} (v : Int64) (hw : e_n h ≤ a ∨ W a k) : Fr W h (e_sJ h1 a k v) :=
  ⟨(x.n),
  (x.u),
  (x.k),
  (x.I),
  (fun b j hb w => by
    rw [e_J_sJ, if_neg, x.J b j hb w]
    rintro ⟨rfl, rfl⟩
    rcases hw with q | q
    · omega
    · exact w q),
  (x.R)⟩
theorem Fr.sR (x : Fr W h h1) {a k : Nat} (v : Option Nat) (hw : e_n h ≤ a ∨ W a k) : Fr W h (e_sR h1 a k v) :=
  ⟨(x.n),
  (x.u),
  (x.k),
  (x.I),
  (x.J),
  (fun b j hb w => by
    rw [e_R_sR, if_neg, x.R b j hb w]
    rintro ⟨rfl, rfl⟩
    rcases hw with q | q
    · omega
    · exact w q)⟩
theorem Fr.mkN (x : Fr W h h1) (d : e_K) (w : Nat) : Fr W h (e_mk h1 d w) := by
  have hn := x.n
  exact ⟨(by rw [e_n_mk]; omega),
    (by have := x.u; rw [e_u_mk]; omega),
    (fun a ha => by rw [e_k_mk, if_neg (by omega), x.k a ha]),
    (fun a j ha w => by rw [e_I_mk, if_neg (by omega), x.I a j ha w]),
    (fun a j ha w => by rw [e_J_mk, if_neg (by omega), x.J a j ha w]),
    (fun a j ha w => by rw [e_R_mk, if_neg (by omega), x.R a j ha w])⟩
theorem Fr.cI (x : Fr W h h1) {s p d q n : Nat} (hw : e_n h ≤ d ∨ ∀ j, q ≤ j → j < q + n → W d j) : Fr W h (e_cI h1 s p d q n) :=
  ⟨(x.n),
  (x.u),
  (x.k),
  (fun b j hb w => by
    rw [e_I_cI, if_neg, x.I b j hb w]
    rintro ⟨rfl, z1, z2⟩
    rcases hw with q | q
    · omega
    · exact w (q j z1 z2)),
  (x.J),
  (x.R)⟩
theorem Fr.cR (x : Fr W h h1) {s p d q n : Nat} (hw : e_n h ≤ d ∨ ∀ j, q ≤ j → j < q + n → W d j) : Fr W h (e_cR h1 s p d q n) :=
  ⟨(x.n),
  (x.u),
  (x.k),
  (x.I),
  (x.J),
  (fun b j hb w => by
    rw [e_R_cR, if_neg, x.R b j hb w]
    rintro ⟨rfl, z1, z2⟩
    rcases hw with q | q
    · omega
    · exact w (q j z1 z2))⟩
end
/-! the model -/
def MHd (I : Nat → Int32) (d : Hd) : Prop :=
  (d.w ≤ 10) ∧
  (d.h ≤ 10) ∧
  (I 0 = nI d.w) ∧
  (I 1 = nI d.h) ∧
  (I 2 = b2i d.bell) ∧
  (I 3 = nI d.outs) ∧
  (∀ i, i < 100 → I (5 + i) = b2i (d.out i))
theorem MHd.w10 {I : Nat → Int32} {d : Hd} (w__ : MHd I d) : d.w ≤ 10 := w__.1
theorem MHd.h10 {I : Nat → Int32} {d : Hd} (w__ : MHd I d) : d.h ≤ 10 := w__.2.1
theorem MHd.w {I : Nat → Int32} {d : Hd} (w__ : MHd I d) : I 0 = nI d.w := w__.2.2.1
theorem MHd.hh {I : Nat → Int32} {d : Hd} (w__ : MHd I d) : I 1 = nI d.h := w__.2.2.2.1
theorem MHd.bell {I : Nat → Int32} {d : Hd} (w__ : MHd I d) : I 2 = b2i d.bell := w__.2.2.2.2.1
theorem MHd.outs {I : Nat → Int32} {d : Hd} (w__ : MHd I d) : I 3 = nI d.outs := w__.2.2.2.2.2.1
theorem MHd.out {I : Nat → Int32} {d : Hd} (w__ : MHd I d) : ∀ i, i < 100 → I (5 + i) = b2i (d.out i) := w__.2.2.2.2.2.2
def MBd (I : Nat → Int32) (b : Nat) (P : Bd) : Prop :=
  (I (105 + 17 * b) = nI P.n) ∧
  (0 < P.n) ∧
  (P.n ≤ 8) ∧
  (∀ i, i < P.n → I (105 + 17 * b + 1 + 2 * i) = P.x i) ∧
  (∀ i, i < P.n → I (105 + 17 * b + 2 + 2 * i) = P.y i)
theorem MBd.n {I : Nat → Int32} {b : Nat} {P : Bd} (w__ : MBd I b P) : I (105 + 17 * b) = nI P.n := w__.1
theorem MBd.pos {I : Nat → Int32} {b : Nat} {P : Bd} (w__ : MBd I b P) : 0 < P.n := w__.2.1
theorem MBd.le {I : Nat → Int32} {b : Nat} {P : Bd} (w__ : MBd I b P) : P.n ≤ 8 := w__.2.2.1
theorem MBd.x {I : Nat → Int32} {b : Nat} {P : Bd} (w__ : MBd I b P) : ∀ i, i < P.n → I (105 + 17 * b + 1 + 2 * i) = P.x i := w__.2.2.2.1
theorem MBd.y {I : Nat → Int32} {b : Nat} {P : Bd} (w__ : MBd I b P) : ∀ i, i < P.n → I (105 + 17 * b + 2 + 2 * i) = P.y i := w__.2.2.2.2
def MRow (I : Nat → Int32) (J : Nat → Int64) (d : Hd) (m : Nat) (bd : Nat → Bd) : Prop :=
  (MHd I d) ∧
  (m ≤ 8) ∧
  (I 4 = nI m) ∧
  (∀ i, i < m → MBd I i (bd i)) ∧
  (∀ i, i < m → J i = e27 (bd i).nm)
theorem MRow.hd {I : Nat → Int32} {J : Nat → Int64} {d : Hd} {m : Nat} {bd : Nat → Bd} (w__ : MRow I J d m bd) : MHd I d := w__.1
theorem MRow.m8 {I : Nat → Int32} {J : Nat → Int64} {d : Hd} {m : Nat} {bd : Nat → Bd} (w__ : MRow I J d m bd) : m ≤ 8 := w__.2.1
theorem MRow.mm {I : Nat → Int32} {J : Nat → Int64} {d : Hd} {m : Nat} {bd : Nat → Bd} (w__ : MRow I J d m bd) : I 4 = nI m := w__.2.2.1
theorem MRow.bb {I : Nat → Int32} {J : Nat → Int64} {d : Hd} {m : Nat} {bd : Nat → Bd} (w__ : MRow I J d m bd) : ∀ i, i < m → MBd I i (bd i) := w__.2.2.2.1
theorem MRow.nm {I : Nat → Int32} {J : Nat → Int64} {d : Hd} {m : Nat} {bd : Nat → Bd} (w__ : MRow I J d m bd) : ∀ i, i < m → J i = e27 (bd i).nm := w__.2.2.2.2
def MCl (I : Nat → Int32) (c : Cl) : Prop :=
  (I 241 = b2i (decide (0 < c.n))) ∧
  (c.n ≤ 8) ∧
  (I 242 = nI c.n) ∧
  (0 < c.n → I 243 = c.x) ∧
  (0 < c.n → I 244 = c.y) ∧
  (∀ k, k < c.n → I (245 + 2 * k) = c.dx k) ∧
  (∀ k, k < c.n → I (246 + 2 * k) = c.dy k)
theorem MCl.has {I : Nat → Int32} {c : Cl} (w__ : MCl I c) : I 241 = b2i (decide (0 < c.n)) := w__.1
theorem MCl.le {I : Nat → Int32} {c : Cl} (w__ : MCl I c) : c.n ≤ 8 := w__.2.1
theorem MCl.n {I : Nat → Int32} {c : Cl} (w__ : MCl I c) : I 242 = nI c.n := w__.2.2.1
theorem MCl.x {I : Nat → Int32} {c : Cl} (w__ : MCl I c) : 0 < c.n → I 243 = c.x := w__.2.2.2.1
theorem MCl.y {I : Nat → Int32} {c : Cl} (w__ : MCl I c) : 0 < c.n → I 244 = c.y := w__.2.2.2.2.1
theorem MCl.dx {I : Nat → Int32} {c : Cl} (w__ : MCl I c) : ∀ k, k < c.n → I (245 + 2 * k) = c.dx k := w__.2.2.2.2.2.1
theorem MCl.dy {I : Nat → Int32} {c : Cl} (w__ : MCl I c) : ∀ k, k < c.n → I (246 + 2 * k) = c.dy k := w__.2.2.2.2.2.2
def MLn (I : Nat → Int32) (m : Nat) (a b : Nat → Nat) : Prop :=
  (m ≤ 4) ∧
  (I 261 = nI m) ∧
  (∀ k, k < m → I (262 + 2 * k) = nI (a k)) ∧
  (∀ k, k < m → I (263 + 2 * k) = nI (b k))
theorem MLn.le {I : Nat → Int32} {m : Nat} {a b : Nat → Nat} (w__ : MLn I m a b) : m ≤ 4 := w__.1
theorem MLn.n {I : Nat → Int32} {m : Nat} {a b : Nat → Nat} (w__ : MLn I m a b) : I 261 = nI m := w__.2.1
theorem MLn.fa {I : Nat → Int32} {m : Nat} {a b : Nat → Nat} (w__ : MLn I m a b) : ∀ k, k < m → I (262 + 2 * k) = nI (a k) := w__.2.2.1
theorem MLn.fb {I : Nat → Int32} {m : Nat} {a b : Nat → Nat} (w__ : MLn I m a b) : ∀ k, k < m → I (263 + 2 * k) = nI (b k) := w__.2.2.2
/-- node k of the row tells node k of a sentence -/
def MNode (I : Nat → Int32) (K : Nat → Int64) (T : Sn) : Nat → Nat → Prop
  | 0, _ => False
  | f + 1, k => k < 60 ∧
    ((T.tag k = 1 ∧ I (272 + 4 * k) = 1 ∧ I (272 + 4 * k + 1) = nI (T.p k) ∧ MNode I K T f (T.p k)) ∨
     (T.tag k = 2 ∧ I (272 + 4 * k) = 2 ∧ I (272 + 4 * k + 1) = nI (T.p k) ∧ I (272 + 4 * k + 2) = nI (T.q k) ∧ MNode I K T f (T.p k) ∧ MNode I K T f (T.q k)) ∨
     (T.tag k = 3 ∧ I (272 + 4 * k) = 3 ∧ I (272 + 4 * k + 1) = nI (T.p k) ∧ I (272 + 4 * k + 2) = nI (T.q k) ∧ MNode I K T f (T.p k) ∧ MNode I K T f (T.q k)) ∨
     ((T.tag k = 4 ∨ T.tag k = 5) ∧ I (272 + 4 * k) = nI (55 + T.tag k) ∧ ∃ u, u < 20 ∧ I (272 + 4 * k + 1) = nI u ∧ K u = e27 (T.nm k)) ∨
     (T.tag k = 6 ∧ I (272 + 4 * k) = 61) ∨
     (7 ≤ T.tag k ∧ T.tag k ≤ 11 ∧ I (272 + 4 * k) = nI (55 + T.tag k) ∧ I (272 + 4 * k + 2) = T.v k ∧ I (272 + 4 * k + 3) = T.s k))
def MIm (I : Nat → Int32) (J K : Nat → Int64) (c : Im) : Prop :=
  (MRow I J c.d c.m c.bd) ∧
  (MCl I c.c) ∧
  (MLn I c.lm c.la c.lb) ∧
  (I 270 = b2i c.sn.isSome) ∧
  (∀ s, c.sn = some s → I 271 = nI s.root ∧ MNode I K s 24 s.root)
theorem MIm.row {I : Nat → Int32} {J K : Nat → Int64} {c : Im} (w__ : MIm I J K c) : MRow I J c.d c.m c.bd := w__.1
theorem MIm.cl {I : Nat → Int32} {J K : Nat → Int64} {c : Im} (w__ : MIm I J K c) : MCl I c.c := w__.2.1
theorem MIm.ln {I : Nat → Int32} {J K : Nat → Int64} {c : Im} (w__ : MIm I J K c) : MLn I c.lm c.la c.lb := w__.2.2.1
theorem MIm.has {I : Nat → Int32} {J K : Nat → Int64} {c : Im} (w__ : MIm I J K c) : I 270 = b2i c.sn.isSome := w__.2.2.2.1
theorem MIm.sn {I : Nat → Int32} {J K : Nat → Int64} {c : Im} (w__ : MIm I J K c) : ∀ s, c.sn = some s → I 271 = nI s.root ∧ MNode I K s 24 s.root := w__.2.2.2.2
def RM (m : Nat) (h : e_H) (S : St) : Prop :=
  (m_sh h m) ∧
  (e_I h m 2 = nI S.tl) ∧
  (∀ i, i < S.tl → e_I h (m + 1) i = nI (S.tp i)) ∧
  (e_I h m 10 = S.fault) ∧
  (e_I h m 12 = S.why) ∧
  (MIm (e_I h (m + 2)) (e_J h (m + 7)) (e_J h (m + 10)) S.c) ∧
  (e_I h m 27 = nI S.um) ∧
  (∀ i, i < S.um → MRow (fun k => e_I h (m + 6) (241 * i + k)) (fun k => e_J h (m + 9) (8 * i + k)) S.c.d (S.ud i).1 (S.ud i).2) ∧
  (e_I h m 33 = nI S.fm) ∧
  (∀ i, i < S.fm → e_I h (m + 18) i = S.fo i) ∧
  (e_I h m 36 = nI S.xm) ∧
  (∀ i, i < S.xm → e_I h (m + 19) i = S.tx i) ∧
  (∀ k, k < 2 → e_I h (m + 13) k = b2i (S.im k).isSome) ∧
  (∀ k c, k < 2 → S.im k = some c → MIm (fun i => e_I h (m + 5) (512 * k + i)) (fun i => e_J h (m + 11) (8 * k + i)) (fun i => e_J h (m + 12) (20 * k + i)) c)
theorem RM.sh {m : Nat} {h : e_H} {S : St} (w__ : RM m h S) : m_sh h m := w__.1
theorem RM.tl {m : Nat} {h : e_H} {S : St} (w__ : RM m h S) : e_I h m 2 = nI S.tl := w__.2.1
theorem RM.tp {m : Nat} {h : e_H} {S : St} (w__ : RM m h S) : ∀ i, i < S.tl → e_I h (m + 1) i = nI (S.tp i) := w__.2.2.1
theorem RM.fault {m : Nat} {h : e_H} {S : St} (w__ : RM m h S) : e_I h m 10 = S.fault := w__.2.2.2.1
theorem RM.why {m : Nat} {h : e_H} {S : St} (w__ : RM m h S) : e_I h m 12 = S.why := w__.2.2.2.2.1
theorem RM.c {m : Nat} {h : e_H} {S : St} (w__ : RM m h S) : MIm (e_I h (m + 2)) (e_J h (m + 7)) (e_J h (m + 10)) S.c := w__.2.2.2.2.2.1
theorem RM.um {m : Nat} {h : e_H} {S : St} (w__ : RM m h S) : e_I h m 27 = nI S.um := w__.2.2.2.2.2.2.1
theorem RM.ud {m : Nat} {h : e_H} {S : St} (w__ : RM m h S) : ∀ i, i < S.um → MRow (fun k => e_I h (m + 6) (241 * i + k)) (fun k => e_J h (m + 9) (8 * i + k)) S.c.d (S.ud i).1 (S.ud i).2 := w__.2.2.2.2.2.2.2.1
theorem RM.fm {m : Nat} {h : e_H} {S : St} (w__ : RM m h S) : e_I h m 33 = nI S.fm := w__.2.2.2.2.2.2.2.2.1
theorem RM.fo {m : Nat} {h : e_H} {S : St} (w__ : RM m h S) : ∀ i, i < S.fm → e_I h (m + 18) i = S.fo i := w__.2.2.2.2.2.2.2.2.2.1
theorem RM.xm {m : Nat} {h : e_H} {S : St} (w__ : RM m h S) : e_I h m 36 = nI S.xm := w__.2.2.2.2.2.2.2.2.2.2.1
theorem RM.tx {m : Nat} {h : e_H} {S : St} (w__ : RM m h S) : ∀ i, i < S.xm → e_I h (m + 19) i = S.tx i := w__.2.2.2.2.2.2.2.2.2.2.2.1
theorem RM.has {m : Nat} {h : e_H} {S : St} (w__ : RM m h S) : ∀ k, k < 2 → e_I h (m + 13) k = b2i (S.im k).isSome := w__.2.2.2.2.2.2.2.2.2.2.2.2.1
theorem RM.im {m : Nat} {h : e_H} {S : St} (w__ : RM m h S) : ∀ k c, k < 2 → S.im k = some c → MIm (fun i => e_I h (m + 5) (512 * k + i)) (fun i => e_J h (m + 11) (8 * k + i)) (fun i => e_J h (m + 12) (20 * k + i)) c := w__.2.2.2.2.2.2.2.2.2.2.2.2.2
/-! the component -/
def CB (rl : Nat → Nat) (h : e_H) (a : Nat) (P : Bd) : Prop := ∃ xs ys, IsBd h a xs ys P ∧ e_J h a 3 = e256 P.nm ∧ rl a = 1 ∧ rl xs = 1 ∧ rl ys = 1
def fitR (h : e_H) (r : Option Nat) : Prop := r = none ∨ ∃ a, r = some a ∧ e_k h a = some (.inl 6)
def CRow (rl : Nat → Nat) (h : e_H) (ba m : Nat) (bd : Nat → Bd) : Prop :=
  (e_k h ba = some (.inr (4, 8))) ∧
  (m ≤ 8) ∧
  (∀ i, i < m → ∃ a, e_R h ba i = some a ∧ CB rl h a (bd i)) ∧
  (∀ i, i < 8 → fitR h (e_R h ba i))
theorem CRow.k {rl : Nat → Nat} {h : e_H} {ba m : Nat} {bd : Nat → Bd} (w__ : CRow rl h ba m bd) : e_k h ba = some (.inr (4, 8)) := w__.1
theorem CRow.m8 {rl : Nat → Nat} {h : e_H} {ba m : Nat} {bd : Nat → Bd} (w__ : CRow rl h ba m bd) : m ≤ 8 := w__.2.1
theorem CRow.b {rl : Nat → Nat} {h : e_H} {ba m : Nat} {bd : Nat → Bd} (w__ : CRow rl h ba m bd) : ∀ i, i < m → ∃ a, e_R h ba i = some a ∧ CB rl h a (bd i) := w__.2.2.1
theorem CRow.f {rl : Nat → Nat} {h : e_H} {ba m : Nat} {bd : Nat → Bd} (w__ : CRow rl h ba m bd) : ∀ i, i < 8 → fitR h (e_R h ba i) := w__.2.2.2
def CCl (h : e_H) (a xs ys : Nat) (c : Cl) : Prop :=
  (e_k h a = some (.inl 3)) ∧
  (e_R h a 0 = some xs) ∧
  (e_R h a 1 = some ys) ∧
  (e_k h xs = some (.inr (0, 8))) ∧
  (e_k h ys = some (.inr (0, 8))) ∧
  (e_I h a 4 = nI c.n) ∧
  (c.n ≤ 8) ∧
  (0 < c.n → e_I h a 2 = c.x) ∧
  (0 < c.n → e_I h a 3 = c.y) ∧
  (∀ k, k < c.n → e_I h xs k = c.dx k) ∧
  (∀ k, k < c.n → e_I h ys k = c.dy k)
theorem CCl.k {h : e_H} {a xs ys : Nat} {c : Cl} (w__ : CCl h a xs ys c) : e_k h a = some (.inl 3) := w__.1
theorem CCl.rx {h : e_H} {a xs ys : Nat} {c : Cl} (w__ : CCl h a xs ys c) : e_R h a 0 = some xs := w__.2.1
theorem CCl.ry {h : e_H} {a xs ys : Nat} {c : Cl} (w__ : CCl h a xs ys c) : e_R h a 1 = some ys := w__.2.2.1
theorem CCl.kx {h : e_H} {a xs ys : Nat} {c : Cl} (w__ : CCl h a xs ys c) : e_k h xs = some (.inr (0, 8)) := w__.2.2.2.1
theorem CCl.ky {h : e_H} {a xs ys : Nat} {c : Cl} (w__ : CCl h a xs ys c) : e_k h ys = some (.inr (0, 8)) := w__.2.2.2.2.1
theorem CCl.n {h : e_H} {a xs ys : Nat} {c : Cl} (w__ : CCl h a xs ys c) : e_I h a 4 = nI c.n := w__.2.2.2.2.2.1
theorem CCl.le {h : e_H} {a xs ys : Nat} {c : Cl} (w__ : CCl h a xs ys c) : c.n ≤ 8 := w__.2.2.2.2.2.2.1
theorem CCl.x {h : e_H} {a xs ys : Nat} {c : Cl} (w__ : CCl h a xs ys c) : 0 < c.n → e_I h a 2 = c.x := w__.2.2.2.2.2.2.2.1
theorem CCl.y {h : e_H} {a xs ys : Nat} {c : Cl} (w__ : CCl h a xs ys c) : 0 < c.n → e_I h a 3 = c.y := w__.2.2.2.2.2.2.2.2.1
theorem CCl.dx {h : e_H} {a xs ys : Nat} {c : Cl} (w__ : CCl h a xs ys c) : ∀ k, k < c.n → e_I h xs k = c.dx k := w__.2.2.2.2.2.2.2.2.2.1
theorem CCl.dy {h : e_H} {a xs ys : Nat} {c : Cl} (w__ : CCl h a xs ys c) : ∀ k, k < c.n → e_I h ys k = c.dy k := w__.2.2.2.2.2.2.2.2.2.2
def CLn (h : e_H) (la lb m : Nat) (a b : Nat → Nat) : Prop :=
  (e_k h la = some (.inr (0, 9))) ∧
  (e_k h lb = some (.inr (0, 9))) ∧
  (m ≤ 4) ∧
  (∀ k, k < m → e_I h la k = nI (a k)) ∧
  (∀ k, k < m → e_I h lb k = nI (b k))
theorem CLn.ka {h : e_H} {la lb m : Nat} {a b : Nat → Nat} (w__ : CLn h la lb m a b) : e_k h la = some (.inr (0, 9)) := w__.1
theorem CLn.kb {h : e_H} {la lb m : Nat} {a b : Nat → Nat} (w__ : CLn h la lb m a b) : e_k h lb = some (.inr (0, 9)) := w__.2.1
theorem CLn.le {h : e_H} {la lb m : Nat} {a b : Nat → Nat} (w__ : CLn h la lb m a b) : m ≤ 4 := w__.2.2.1
theorem CLn.fa {h : e_H} {la lb m : Nat} {a b : Nat → Nat} (w__ : CLn h la lb m a b) : ∀ k, k < m → e_I h la k = nI (a k) := w__.2.2.2.1
theorem CLn.fb {h : e_H} {la lb m : Nat} {a b : Nat → Nat} (w__ : CLn h la lb m a b) : ∀ k, k < m → e_I h lb k = nI (b k) := w__.2.2.2.2
/-- the component's object at a tells node k of a sentence -/
def CSn (rl : Nat → Nat) (h : e_H) (T : Sn) : Nat → Nat → Nat → Prop
  | 0, _, _ => False
  | f + 1, k, a => rl a = 1 ∧
    ((T.tag k = 1 ∧ e_k h a = some (.inl 9) ∧ ∃ u, e_R h a 0 = some u ∧ CSn rl h T f (T.p k) u) ∨
     (T.tag k = 2 ∧ e_k h a = some (.inl 12) ∧ ∃ u v, e_R h a 0 = some u ∧ e_R h a 1 = some v ∧ CSn rl h T f (T.p k) u ∧ CSn rl h T f (T.q k) v) ∨
     (T.tag k = 3 ∧ e_k h a = some (.inl 13) ∧ ∃ u v, e_R h a 0 = some u ∧ e_R h a 1 = some v ∧ CSn rl h T f (T.p k) u ∧ CSn rl h T f (T.q k) v) ∨
     ((T.tag k = 4 ∨ T.tag k = 5) ∧ e_k h a = some (.inl 11) ∧ e_I h a 0 = b2i (decide (T.tag k = 5)) ∧ e_J h a 1 = e256 (T.nm k)) ∨
     (T.tag k = 6 ∧ e_k h a = some (.inl 10) ∧ e_I h a 0 = 5 ∧ e_I h a 1 = 62 ∧ e_I h a 2 = 0) ∨
     (7 ≤ T.tag k ∧ T.tag k ≤ 11 ∧ e_k h a = some (.inl 10) ∧ e_I h a 0 = nI (T.tag k - 7) ∧ e_I h a 1 = T.s k ∧ e_I h a 2 = T.v k))
def CSnO (rl : Nat → Nat) (h : e_H) (s : Option Sn) (r : Option Nat) : Prop := (s = none → r = none) ∧ ∀ x, s = some x → ∃ a, r = some a ∧ CSn rl h x 24 x.root a
def CHd (rl : Nat → Nat) (h : e_H) (B o ba : Nat) (d : Hd) : Prop :=
  (BH h B o d) ∧
  (e_R h B 0 = some ba) ∧
  (e_k h ba = some (.inr (4, 8))) ∧
  (rl B = 2) ∧
  (rl o = 1) ∧
  (rl ba = 2)
theorem CHd.bh {rl : Nat → Nat} {h : e_H} {B o ba : Nat} {d : Hd} (w__ : CHd rl h B o ba d) : BH h B o d := w__.1
theorem CHd.r {rl : Nat → Nat} {h : e_H} {B o ba : Nat} {d : Hd} (w__ : CHd rl h B o ba d) : e_R h B 0 = some ba := w__.2.1
theorem CHd.k {rl : Nat → Nat} {h : e_H} {B o ba : Nat} {d : Hd} (w__ : CHd rl h B o ba d) : e_k h ba = some (.inr (4, 8)) := w__.2.2.1
theorem CHd.rB {rl : Nat → Nat} {h : e_H} {B o ba : Nat} {d : Hd} (w__ : CHd rl h B o ba d) : rl B = 2 := w__.2.2.2.1
theorem CHd.ro {rl : Nat → Nat} {h : e_H} {B o ba : Nat} {d : Hd} (w__ : CHd rl h B o ba d) : rl o = 1 := w__.2.2.2.2.1
theorem CHd.rb {rl : Nat → Nat} {h : e_H} {B o ba : Nat} {d : Hd} (w__ : CHd rl h B o ba d) : rl ba = 2 := w__.2.2.2.2.2
def CKept (rl : Nat → Nat) (h : e_H) (a rk : Nat) (c : Im) : Prop :=
  (e_k h a = some (.inl 14)) ∧
  (rl a = rk) ∧
  (∃ B o ba, e_R h a 0 = some B ∧ CHd rl h B o ba c.d) ∧
  (∃ ba, e_R h a 1 = some ba ∧ rl ba = rk ∧ CRow rl h ba c.m c.bd) ∧
  (∃ q xs ys, e_R h a 2 = some q ∧ rl q = rk ∧ rl xs = rk ∧ rl ys = rk ∧ CCl h q xs ys c.c) ∧
  (∃ p q, e_R h a 3 = some p ∧ e_R h a 4 = some q ∧ rl p = rk ∧ rl q = rk ∧ CLn h p q c.lm c.la c.lb) ∧
  (e_I h a 5 = nI c.m) ∧
  (e_I h a 6 = nI c.lm) ∧
  (CSnO rl h c.sn (e_R h a 7))
theorem CKept.k {rl : Nat → Nat} {h : e_H} {a rk : Nat} {c : Im} (w__ : CKept rl h a rk c) : e_k h a = some (.inl 14) := w__.1
theorem CKept.rr {rl : Nat → Nat} {h : e_H} {a rk : Nat} {c : Im} (w__ : CKept rl h a rk c) : rl a = rk := w__.2.1
theorem CKept.B {rl : Nat → Nat} {h : e_H} {a rk : Nat} {c : Im} (w__ : CKept rl h a rk c) : ∃ B o ba, e_R h a 0 = some B ∧ CHd rl h B o ba c.d := w__.2.2.1
theorem CKept.bs {rl : Nat → Nat} {h : e_H} {a rk : Nat} {c : Im} (w__ : CKept rl h a rk c) : ∃ ba, e_R h a 1 = some ba ∧ rl ba = rk ∧ CRow rl h ba c.m c.bd := w__.2.2.2.1
theorem CKept.cc {rl : Nat → Nat} {h : e_H} {a rk : Nat} {c : Im} (w__ : CKept rl h a rk c) : ∃ q xs ys, e_R h a 2 = some q ∧ rl q = rk ∧ rl xs = rk ∧ rl ys = rk ∧ CCl h q xs ys c.c := w__.2.2.2.2.1
theorem CKept.ll {rl : Nat → Nat} {h : e_H} {a rk : Nat} {c : Im} (w__ : CKept rl h a rk c) : ∃ p q, e_R h a 3 = some p ∧ e_R h a 4 = some q ∧ rl p = rk ∧ rl q = rk ∧ CLn h p q c.lm c.la c.lb := w__.2.2.2.2.2.1
theorem CKept.mm {rl : Nat → Nat} {h : e_H} {a rk : Nat} {c : Im} (w__ : CKept rl h a rk c) : e_I h a 5 = nI c.m := w__.2.2.2.2.2.2.1
theorem CKept.lm {rl : Nat → Nat} {h : e_H} {a rk : Nat} {c : Im} (w__ : CKept rl h a rk c) : e_I h a 6 = nI c.lm := w__.2.2.2.2.2.2.2.1
theorem CKept.sn {rl : Nat → Nat} {h : e_H} {a rk : Nat} {c : Im} (w__ : CKept rl h a rk c) : CSnO rl h c.sn (e_R h a 7) := w__.2.2.2.2.2.2.2.2
def RD (rl : Nat → Nat) (b : Nat) (h : e_H) (S : St) : Prop :=
  (∀ a, rl a ≠ 0 → a < e_n h ∧ (b + 62 ≤ a ∨ a = b + 4 ∨ a = b + 5 ∨ a = b + 6)) ∧
  (∃ B o ba, e_R h b 6 = some B ∧ CHd rl h B o ba S.c.d ∧ e_I h B 4 = nI S.c.m ∧ CRow rl h ba S.c.m S.c.bd) ∧
  (∀ i, i < S.um → ∃ r, e_R h (b + 19) i = some r ∧ rl r = 1 ∧ e_k h r = some (.inr (4, (S.ud i).1)) ∧ (S.ud i).1 ≤ 8 ∧ ∀ j, j < (S.ud i).1 → ∃ a, e_R h r j = some a ∧ CB rl h a ((S.ud i).2 j)) ∧
  (CSnO rl h S.c.sn (e_R h b 35)) ∧
  (∀ k, k < 2 → (S.im k = none → e_R h (b + 32) k = none) ∧ ∀ c, S.im k = some c → ∃ a, e_R h (b + 32) k = some a ∧ CKept rl h a (3 + k) c)
theorem RD.dom {rl : Nat → Nat} {b : Nat} {h : e_H} {S : St} (w__ : RD rl b h S) : ∀ a, rl a ≠ 0 → a < e_n h ∧ (b + 62 ≤ a ∨ a = b + 4 ∨ a = b + 5 ∨ a = b + 6) := w__.1
theorem RD.cur {rl : Nat → Nat} {b : Nat} {h : e_H} {S : St} (w__ : RD rl b h S) : ∃ B o ba, e_R h b 6 = some B ∧ CHd rl h B o ba S.c.d ∧ e_I h B 4 = nI S.c.m ∧ CRow rl h ba S.c.m S.c.bd := w__.2.1
theorem RD.und {rl : Nat → Nat} {b : Nat} {h : e_H} {S : St} (w__ : RD rl b h S) : ∀ i, i < S.um → ∃ r, e_R h (b + 19) i = some r ∧ rl r = 1 ∧ e_k h r = some (.inr (4, (S.ud i).1)) ∧ (S.ud i).1 ≤ 8 ∧ ∀ j, j < (S.ud i).1 → ∃ a, e_R h r j = some a ∧ CB rl h a ((S.ud i).2 j) := w__.2.2.1
theorem RD.sen {rl : Nat → Nat} {b : Nat} {h : e_H} {S : St} (w__ : RD rl b h S) : CSnO rl h S.c.sn (e_R h b 35) := w__.2.2.2.1
theorem RD.img {rl : Nat → Nat} {b : Nat} {h : e_H} {S : St} (w__ : RD rl b h S) : ∀ k, k < 2 → (S.im k = none → e_R h (b + 32) k = none) ∧ ∀ c, S.im k = some c → ∃ a, e_R h (b + 32) k = some a ∧ CKept rl h a (3 + k) c := w__.2.2.2.2
/-- the kinds of the component's own cells -/
def cK : List (Nat × e_K) := [(0, .inl 0), (1, .inr (1, 640)), (2, .inl 1), (3, .inr (6, 17)), (7, .inl 3), (8, .inr (0, 8)), (9, .inr (0, 8)), (10, .inl 3), (11, .inr (0, 8)), (12, .inr (0, 8)), (13, .inl 4), (14, .inl 5), (15, .inr (0, 16)), (16, .inr (0, 16)), (17, .inr (0, 16)), (18, .inr (0, 16)), (19, .inr (5, 8)), (20, .inr (1, 100)), (21, .inl 6), (22, .inr (0, 9)), (23, .inr (0, 9)), (24, .inr (0, 100)), (25, .inr (0, 100)), (26, .inr (0, 46656)), (27, .inr (0, 46656)), (28, .inr (0, 9)), (29, .inr (0, 9)), (30, .inl 7), (31, .inr (6, 5)), (32, .inr (7, 2))]
/-- the references that stay: cell, field, cell -/
def cR : List (Nat × Nat × Nat) := [(0, 0, 1), (0, 4, 2), (0, 5, 3), (0, 7, 7), (0, 8, 10), (0, 9, 13), (0, 10, 14), (0, 13, 15), (0, 14, 16), (0, 15, 17), (0, 16, 18), (0, 18, 19), (0, 20, 20), (0, 22, 21), (0, 25, 24), (0, 26, 25), (0, 28, 26), (0, 29, 27), (0, 31, 28), (0, 32, 29), (0, 34, 30), (0, 36, 32), (7, 0, 8), (7, 1, 9), (10, 0, 11), (10, 1, 12), (13, 7, 0), (13, 9, 0), (14, 7, 0), (14, 8, 0), (30, 7, 0), (30, 8, 31), (30, 10, 0), (21, 0, 22), (21, 1, 23)]
def CSh (A : Nat → Nat) (b : Nat) (h : e_H) : Prop :=
  (∀ a, e_n h ≤ a → e_k h a = none) ∧
  (b + 62 ≤ e_n h) ∧
  (∀ q ∈ cK, e_k h (b + q.1) = some q.2) ∧
  (∀ q ∈ cR, e_R h (b + q.1) q.2.1 = some (b + q.2.2)) ∧
  (∀ j, j < 17 → e_R h (b + 3) j = some (A j)) ∧
  (∀ j, j < 5 → e_R h (b + 31) j = some (A (12 + j))) ∧
  (e_I h (b + 13) 0 = 600) ∧
  (e_I h (b + 14) 0 = 300) ∧
  (e_I h (b + 30) 0 = 200)
theorem CSh.wf {A : Nat → Nat} {b : Nat} {h : e_H} (w__ : CSh A b h) : ∀ a, e_n h ≤ a → e_k h a = none := w__.1
theorem CSh.n {A : Nat → Nat} {b : Nat} {h : e_H} (w__ : CSh A b h) : b + 62 ≤ e_n h := w__.2.1
theorem CSh.k {A : Nat → Nat} {b : Nat} {h : e_H} (w__ : CSh A b h) : ∀ q ∈ cK, e_k h (b + q.1) = some q.2 := w__.2.2.1
theorem CSh.r {A : Nat → Nat} {b : Nat} {h : e_H} (w__ : CSh A b h) : ∀ q ∈ cR, e_R h (b + q.1) q.2.1 = some (b + q.2.2) := w__.2.2.2.1
theorem CSh.w {A : Nat → Nat} {b : Nat} {h : e_H} (w__ : CSh A b h) : ∀ j, j < 17 → e_R h (b + 3) j = some (A j) := w__.2.2.2.2.1
theorem CSh.v {A : Nat → Nat} {b : Nat} {h : e_H} (w__ : CSh A b h) : ∀ j, j < 5 → e_R h (b + 31) j = some (A (12 + j)) := w__.2.2.2.2.2.1
theorem CSh.m1 {A : Nat → Nat} {b : Nat} {h : e_H} (w__ : CSh A b h) : e_I h (b + 13) 0 = 600 := w__.2.2.2.2.2.2.1
theorem CSh.m2 {A : Nat → Nat} {b : Nat} {h : e_H} (w__ : CSh A b h) : e_I h (b + 14) 0 = 300 := w__.2.2.2.2.2.2.2.1
theorem CSh.m3 {A : Nat → Nat} {b : Nat} {h : e_H} (w__ : CSh A b h) : e_I h (b + 30) 0 = 200 := w__.2.2.2.2.2.2.2.2
def RC (A : Nat → Nat) (b : Nat) (h : e_H) (S : St) : Prop :=
  (CSh A b h) ∧
  (e_I h b 1 = nI S.tl) ∧
  (∀ i, i < S.tl → e_I h (b + 1) i = sbyte (S.tp i)) ∧
  (e_I h b 11 = S.fault) ∧
  (e_I h b 12 = S.why) ∧
  (e_I h b 17 = nI S.fm) ∧
  (∀ i, i < S.fm → e_I h (b + 18) i = S.fo i) ∧
  (e_I h b 19 = nI S.um) ∧
  (e_I h b 21 = nI S.xm) ∧
  (∀ i, i < S.xm → e_I h (b + 20) i = S.tx i) ∧
  (e_I h b 33 = nI S.c.lm) ∧
  (CLn h (b + 28) (b + 29) S.c.lm S.c.la S.c.lb) ∧
  (CCl h (b + 7) (b + 8) (b + 9) S.c.c) ∧
  (∃ rl, RD rl b h S)
theorem RC.sh {A : Nat → Nat} {b : Nat} {h : e_H} {S : St} (w__ : RC A b h S) : CSh A b h := w__.1
theorem RC.tl {A : Nat → Nat} {b : Nat} {h : e_H} {S : St} (w__ : RC A b h S) : e_I h b 1 = nI S.tl := w__.2.1
theorem RC.tp {A : Nat → Nat} {b : Nat} {h : e_H} {S : St} (w__ : RC A b h S) : ∀ i, i < S.tl → e_I h (b + 1) i = sbyte (S.tp i) := w__.2.2.1
theorem RC.fault {A : Nat → Nat} {b : Nat} {h : e_H} {S : St} (w__ : RC A b h S) : e_I h b 11 = S.fault := w__.2.2.2.1
theorem RC.why {A : Nat → Nat} {b : Nat} {h : e_H} {S : St} (w__ : RC A b h S) : e_I h b 12 = S.why := w__.2.2.2.2.1
theorem RC.fm {A : Nat → Nat} {b : Nat} {h : e_H} {S : St} (w__ : RC A b h S) : e_I h b 17 = nI S.fm := w__.2.2.2.2.2.1
theorem RC.fo {A : Nat → Nat} {b : Nat} {h : e_H} {S : St} (w__ : RC A b h S) : ∀ i, i < S.fm → e_I h (b + 18) i = S.fo i := w__.2.2.2.2.2.2.1
theorem RC.um {A : Nat → Nat} {b : Nat} {h : e_H} {S : St} (w__ : RC A b h S) : e_I h b 19 = nI S.um := w__.2.2.2.2.2.2.2.1
theorem RC.xm {A : Nat → Nat} {b : Nat} {h : e_H} {S : St} (w__ : RC A b h S) : e_I h b 21 = nI S.xm := w__.2.2.2.2.2.2.2.2.1
theorem RC.tx {A : Nat → Nat} {b : Nat} {h : e_H} {S : St} (w__ : RC A b h S) : ∀ i, i < S.xm → e_I h (b + 20) i = S.tx i := w__.2.2.2.2.2.2.2.2.2.1
theorem RC.lm {A : Nat → Nat} {b : Nat} {h : e_H} {S : St} (w__ : RC A b h S) : e_I h b 33 = nI S.c.lm := w__.2.2.2.2.2.2.2.2.2.2.1
theorem RC.ln {A : Nat → Nat} {b : Nat} {h : e_H} {S : St} (w__ : RC A b h S) : CLn h (b + 28) (b + 29) S.c.lm S.c.la S.c.lb := w__.2.2.2.2.2.2.2.2.2.2.2.1
theorem RC.cl {A : Nat → Nat} {b : Nat} {h : e_H} {S : St} (w__ : RC A b h S) : CCl h (b + 7) (b + 8) (b + 9) S.c.c := w__.2.2.2.2.2.2.2.2.2.2.2.2.1
theorem RC.dyn {A : Nat → Nat} {b : Nat} {h : e_H} {S : St} (w__ : RC A b h S) : ∃ rl, RD rl b h S := w__.2.2.2.2.2.2.2.2.2.2.2.2.2
