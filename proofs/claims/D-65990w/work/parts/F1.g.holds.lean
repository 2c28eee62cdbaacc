/-! L3: equations (model): all rows of some constraints -/
/-- a constraint: its kind, its points, the ends of its lines -/
abbrev Cst : Type := Nat × Nat × Nat × Nat × Nat × Nat × Nat × Nat
def eqC (t : Cst) (i : Nat) : List (Nat × Int) := eqL t.1 i t.2.1 t.2.2.1 t.2.2.2.1 t.2.2.2.2.1 t.2.2.2.2.2.1 t.2.2.2.2.2.2.1 t.2.2.2.2.2.2.2
/-- what equation i makes -/
def rhC (t : Cst) (w : Int) (i : Nat) : Int := if i = 0 ∧ t.1 ≤ 5 then w else 0
def okI (t : Cst) (i : Nat) : Prop := i = 0 ∨ (i = 1 ∧ eq2 t.1 = true)
/-- the equations of some constraints -/
def EqE (nk : Nat) (sel : Nat → Bool) (cs : Nat → Cst) (w : Nat → Int) : (Nat → Int) → Int → Prop := fun x y => ∃ k i, k < nk ∧ sel k = true ∧ okI (cs k) i ∧ x = tmS (eqC (cs k) i) ∧ y = rhC (cs k) (w k) i
def PtC (B : Nat) (h : AH) (w1 : Nat) (t : Cst) (xa xb xc : Int) : Prop := PtK B h w1 t.1 t.2.1 t.2.2.1 t.2.2.2.1 t.2.2.2.2.1 t.2.2.2.2.2.1 t.2.2.2.2.2.2.1 t.2.2.2.2.2.2.2 xa xb xc
def PnC (t : Cst) : Prop := PtN t.1 t.2.1 t.2.2.1 t.2.2.2.1 t.2.2.2.2.1 t.2.2.2.2.2.1 t.2.2.2.2.2.2.1 t.2.2.2.2.2.2.2
/-- the constraints of the model's sketch in w1 -/
def CsM (B : Nat) (h : AH) (w1 nk : Nat) (cs : Nat → Cst) (xa xb xc : Nat → Int) : Prop := hv h w1 5 = (nk : Int) ∧ nk ≤ 32 ∧ ∀ k, k < nk → hv h (w1 + 8) k = (((cs k).1 : Nat) : Int) ∧ (cs k).1 < 24 ∧ hv h (w1 + 9) k = xa k ∧ hv h (w1 + 10) k = xb k ∧ hv h (w1 + 11) k = xc k ∧ PtC B h w1 (cs k) (xa k) (xb k) (xc k)
theorem PtC.n {B : Nat} {h : AH} {w1 : Nat} {t : Cst} {xa xb xc : Int} (P : PtC B h w1 t xa xb xc) : PnC t := by
  obtain ⟨p1, p2⟩ := P
  refine ⟨fun z => ?_, fun z => ?_⟩
  · obtain ⟨⟨_, a⟩, b, c⟩ := p1 z
    exact ⟨a, fun y => (b y).2, fun y => (c y).2⟩
  · obtain ⟨_, _, _, _, a, b, c, e, _⟩ := p2 z
    exact ⟨a, b, c, e⟩
theorem PtC.agr {B : Nat} {h q : AH} {w1 : Nat} {t : Cst} {xa xb xc : Int} (P : PtC B h w1 t xa xb xc) (e3 : ∀ k, hv q (w1 + 3) k = hv h (w1 + 3) k) (e4 : ∀ k, hv q (w1 + 4) k = hv h (w1 + 4) k) : PtC B q w1 t xa xb xc := by
  refine ⟨P.1, fun z => ?_⟩
  obtain ⟨a1, a2, a3, a4, a5, a6, a7, a8, b1, b2, b3, b4⟩ := P.2 z
  exact ⟨a1, a2, a3, a4, a5, a6, a7, a8, by rw [e3]; exact b1, by rw [e4]; exact b2, by rw [e3]; exact b3, by rw [e4]; exact b4⟩
theorem eqC_ok {t : Cst} {i : Nat} (hk : t.1 < 24) (P : PnC t) : RwK (eqC t i) := eqL_ok hk P
/-- kinds with a number: short rows -/
theorem eqC_lo {t : Cst} (hk : t.1 ≤ 5) (P : PnC t) : rnm 24 (tmS (eqC t 0)) ≤ 6 := by
  obtain ⟨kd, a, b, c, fa, ta, fb, tb⟩ := t
  obtain ⟨P1, -⟩ := P
  have hk' : kd ≤ 5 := hk
  have P1' : kd < 17 → a < 12 ∧ (2 ≤ kd → b < 12) ∧ (11 ≤ kd → c < 12) := P1
  show rnm 24 (tmS (eqL kd 0 a b c fa ta fb tb)) ≤ 6
  have one : ∀ {p : Nat}, p < 24 → rnm 24 (tmS [(p, 1)]) ≤ 6 := fun {p} hp => by
    have a1 := rnm_c (L := []) (y := 1) hp
    rw [rnm_nil] at a1
    have e : tmS [] p = 0 := rfl
    rw [e] at a1; omega
  have two : ∀ {p q : Nat}, p < 24 → q < 24 → rnm 24 (tmS [(p, 1), (q, -1)]) ≤ 6 := fun {p q} hp hq => by
    have a1 := rnm_c (L := [(q, -1)]) (y := 1) hp
    have a2 := rnm_c (L := []) (y := -1) hq
    rw [rnm_nil] at a2
    have e1 : tmS [(q, -1)] p = if q = p then -1 else 0 := by show (if q = p then -1 else 0) + 0 = _; omega
    have e2 : tmS [] q = 0 := rfl
    rw [e1] at a1
    rw [e2] at a2
    split at a1 <;> omega
  rcases (by omega : kd = 0 ∨ kd = 1 ∨ kd = 2 ∨ kd = 3 ∨ kd = 4 ∨ kd = 5) with e | e | e | e | e | e <;> subst e
  · exact one (by omega)
  · exact one (by omega)
  · exact two (by omega) (by omega)
  · exact two (by omega) (by omega)
  · show rnm 24 (tmS [(2 * b + 1, 1), (2 * b, -1), (2 * a + 1, -1), (2 * a, 1)]) ≤ 6
    have a1 := rnm_c (p := 2 * b + 1) (L := [(2 * b, -1), (2 * a + 1, -1), (2 * a, 1)]) (y := 1) (by omega)
    have a2 := rnm_c (p := 2 * b) (L := [(2 * a + 1, -1), (2 * a, 1)]) (y := -1) (by omega)
    have a3 := rnm_c (p := 2 * a + 1) (L := [(2 * a, 1)]) (y := -1) (by omega)
    have a4 := rnm_c (p := 2 * a) (L := []) (y := 1) (by omega)
    rw [rnm_nil] at a4
    have e1 : tmS [(2 * b, -1), (2 * a + 1, -1), (2 * a, 1)] (2 * b + 1) = if a = b then -1 else 0 := by
      show (if 2 * b = 2 * b + 1 then -1 else 0) + ((if 2 * a + 1 = 2 * b + 1 then -1 else 0) + ((if 2 * a = 2 * b + 1 then 1 else 0) + 0)) = _
      rw [if_neg (by omega), if_neg (show ¬ 2 * a = 2 * b + 1 by omega)]
      by_cases z : a = b
      · rw [if_pos z, if_pos (by omega)]; rfl
      · rw [if_neg z, if_neg (by omega)]; rfl
    have e2 : tmS [(2 * a + 1, -1), (2 * a, 1)] (2 * b) = if a = b then 1 else 0 := by
      show (if 2 * a + 1 = 2 * b then -1 else 0) + ((if 2 * a = 2 * b then 1 else 0) + 0) = _
      rw [if_neg (by omega)]
      by_cases z : a = b
      · rw [if_pos z, if_pos (by omega)]; rfl
      · rw [if_neg z, if_neg (by omega)]; rfl
    have e3 : tmS [(2 * a, 1)] (2 * a + 1) = 0 := by
      show (if 2 * a = 2 * a + 1 then 1 else 0) + 0 = (0 : Int)
      rw [if_neg (by omega)]; rfl
    have e4 : tmS [] (2 * a) = 0 := rfl
    rw [e1] at a1
    rw [e2] at a2
    rw [e3] at a3
    rw [e4] at a4
    split at a1 <;> split at a2 <;> omega
  · show rnm 24 (tmS [(2 * b, 1), (2 * b + 1, 1), (2 * a, -1), (2 * a + 1, -1)]) ≤ 6
    have a1 := rnm_c (p := 2 * b) (L := [(2 * b + 1, 1), (2 * a, -1), (2 * a + 1, -1)]) (y := 1) (by omega)
    have a2 := rnm_c (p := 2 * b + 1) (L := [(2 * a, -1), (2 * a + 1, -1)]) (y := 1) (by omega)
    have a3 := rnm_c (p := 2 * a) (L := [(2 * a + 1, -1)]) (y := -1) (by omega)
    have a4 := rnm_c (p := 2 * a + 1) (L := []) (y := -1) (by omega)
    rw [rnm_nil] at a4
    have e1 : tmS [(2 * b + 1, 1), (2 * a, -1), (2 * a + 1, -1)] (2 * b) = if a = b then -1 else 0 := by
      show (if 2 * b + 1 = 2 * b then 1 else 0) + ((if 2 * a = 2 * b then -1 else 0) + ((if 2 * a + 1 = 2 * b then -1 else 0) + 0)) = _
      rw [if_neg (by omega), if_neg (show ¬ 2 * a + 1 = 2 * b by omega)]
      by_cases z : a = b
      · rw [if_pos z, if_pos (by omega)]; rfl
      · rw [if_neg z, if_neg (by omega)]; rfl
    have e2 : tmS [(2 * a, -1), (2 * a + 1, -1)] (2 * b + 1) = if a = b then -1 else 0 := by
      show (if 2 * a = 2 * b + 1 then -1 else 0) + ((if 2 * a + 1 = 2 * b + 1 then -1 else 0) + 0) = _
      rw [if_neg (by omega)]
      by_cases z : a = b
      · rw [if_pos z, if_pos (by omega)]; rfl
      · rw [if_neg z, if_neg (by omega)]; rfl
    have e3 : tmS [(2 * a + 1, -1)] (2 * a) = 0 := by
      show (if 2 * a + 1 = 2 * a then -1 else 0) + 0 = (0 : Int)
      rw [if_neg (by omega)]; rfl
    have e4 : tmS [] (2 * a + 1) = 0 := rfl
    rw [e1] at a1
    rw [e2] at a2
    rw [e3] at a3
    rw [e4] at a4
    split at a1 <;> split at a2 <;> omega
/-- where equations are worked out -/
def skW (B : Nat) : Nat → Nat → Prop := fun c k => (c = B + 149 ∧ 35 ≤ k ∧ k ≤ 47) ∨ (B + 160 ≤ c ∧ c ≤ B + 167)
def hlW (B : Nat) : Nat → Nat → Prop := fun c k => skW B c k ∨ wvW B c k
def teX (B : Nat) : Nat → Nat → Prop := fun c k => teW B c k ∨ (c = B + 149 ∧ k = 42)
theorem tx_sk {B c k : Nat} (h : teX B c k) : skW B c k := by unfold teX teW at h; unfold skW; omega
theorem el_sk {B c k : Nat} (h : elW B c k) : skW B c k := by unfold elW at h; unfold skW; omega
theorem ho_lo {B c k : Nat} (h : hlW B c k) : c < B + 246 := by
  rcases h with h | h
  · unfold skW at h; omega
  · exact wv_lo h
section HOLDS
variable {gv : Nat → Int} {B n d w1 nk : Nat} {h : AH} {cs : Nat → Cst} {xa xb xc w : Nat → Int} {sel : Nat → Bool} {Inv : AH → Prop}
theorem CsM.agr {q : AH} (C : CsM B h w1 nk cs xa xb xc) (S : YS B w1 h) (g : Agr (hlW B) h q) : CsM B q w1 nk cs xa xb xc := by
  have lo := S.lo
  have at_ : ∀ j k, hv q (w1 + j) k = hv h (w1 + j) k := fun j k => g.at _ _ (fun z => by have := ho_lo z; omega)
  obtain ⟨c1, c2, c3⟩ := C
  refine ⟨by rw [show w1 = w1 + 0 from rfl, at_]; exact c1, c2, fun k hk => ?_⟩
  obtain ⟨a1, a2, a3, a4, a5, a6⟩ := c3 k hk
  exact ⟨by rw [at_]; exact a1, a2, by rw [at_]; exact a3, by rw [at_]; exact a4, by rw [at_]; exact a5, a6.agr (at_ 3) (at_ 4)⟩
theorem ys_ho {q : AH} (S : YS B w1 h) (g : Agr (hlW B) h q) : YS B w1 q := S.agr g (fun k _ z => by have := ho_lo z; have := S.lo; omega)
theorem TmL.wv {q : AH} {L1 L2 : List (Nat × Int)} {f : Int} (T : TmL B h L1 L2 f) (g : Agr (wvW B) h q) : TmL B q L1 L2 f := by
  obtain ⟨⟨t1, t2, t3⟩, t4, t5⟩ := T
  have at_ : ∀ k, 40 ≤ k → hv q (B + 149) k = hv h (B + 149) k := fun k hk => g.at _ _ (fun z => by unfold wvW mfW at z; omega)
  have at2 : ∀ c k, B + 160 ≤ c → hv q c k = hv h c k := fun c k hc => g.at _ _ (fun z => by unfold wvW mfW at z; omega)
  refine ⟨⟨by rw [at_ _ (by decide)]; exact t1, by rw [at_ _ (by decide)]; exact t2, by rw [at_ _ (by decide)]; exact t3⟩, fun i t ht => ?_, fun i t ht => ?_⟩
  · rw [at2 _ _ (by omega), at2 _ _ (by omega)]; exact t4 i t ht
  · rw [at2 _ _ (by omega), at2 _ _ (by omega)]; exact t5 i t ht
/-- formulas of constraints give numbers -/
def GvC (gv : Nat → Int) (B n w1 nk : Nat) (h0 : AH) (cs : Nat → Cst) (w : Nat → Int) (sel : Nat → Bool) (Inv : AH → Prop) : Prop := ∀ (k d' : Nat) (q : AH), k < nk → sel k = true → (cs k).1 ≤ 5 → LX B n q → 982 ≤ d' → Inv q → (-200 ≤ w k ∧ w k ≤ 200) ∧ Vt 0 (cll PP (ev PP (gsF gv) B) d' 655 [(2, rf (B + 149)), (2, hv h0 (w1 + 13) k)] q) (fun v q' => Agr (wvW B) q q' ∧ Inv q' ∧ v = w k)
theorem c_equations615 {h0 : AH} {k : Nat} (l : LX B n h) (hd : 990 ≤ d) (S : YS B w1 h) (C : CsM B h w1 nk cs xa xb xc) (hk0 : k < nk) (hs : sel k = true) (hInv : ∀ q q', Inv q → Agr (skW B) q q' → Inv q') (i : Inv h) (HG : GvC gv B n w1 nk h0 cs w sel Inv) (e13 : hv h (w1 + 13) k = hv h0 (w1 + 13) k) :
    Vd (cll PP (ev PP (gsF gv) B) d 615 [(2, rf (B + 149)), (2, rf w1), (0, (k : Int))] h) (fun h' => Agr (hlW B) h h' ∧ Inv h' ∧ (∀ k, 35 ≤ k → k ≤ 39 → hv h' (B + 149) k = hv h (B + 149) k) ∧ (∀ c, B + 160 ≤ c → c ≤ B + 162 → ∀ k, hv h' c k = hv h c k) ∧ (∀ k, hv h' (B + 165) k = hv h (B + 165) k) ∧ TmL B h' (eqC (cs k) 0) (eqC (cs k) 1) (if eq2 (cs k).1 = true then 1 else 0) ∧ hv h' (B + 149) 42 = rhC (cs k) (w k) 0) := by
  have lo := S.lo
  obtain ⟨c1, c2, c3⟩ := C
  obtain ⟨a1, a2, a3, a4, a5, a6⟩ := c3 k hk0
  refine Vd.inq (D := 989) hd (Nat.le_of_ble_eq_true rfl) rfl (fun d hd Q K => ?_)
  refine Ends.eq (b615_0 l (by omega) S) (Ends.g ⟨by omega, by omega⟩ ?_)
  rw [tn, a1, a3, a4, a5]
  obtain ⟨q0, eq0⟩ : ∃ q0, q0 = hset (hset (hset (hset h (B + 149) 40 (0 : Int)) (B + 149) 41 (0 : Int)) (B + 149) 43 (0 : Int)) (B + 149) 42 (0 : Int) := ⟨_, rfl⟩
  have l0 : LX B n q0 := by rw [eq0]; exact LX.setF 149 42 (LX.setF 149 43 (LX.setF 149 41 (LX.setF 149 40 l (by decide +kernel)) (by decide +kernel)) (by decide +kernel)) (by decide +kernel)
  have g0 : Agr (teX B) h q0 := by rw [eq0]; exact (((Agr.rf.set (Or.inl (Or.inl ⟨rfl, by decide⟩))).set (Or.inl (Or.inl ⟨rfl, by decide⟩))).set (Or.inl (Or.inl ⟨rfl, by decide⟩))).set (Or.inr ⟨rfl, rfl⟩)
  have T0 : TmL B q0 [] [] 0 := by
    rw [eq0]
    refine ⟨⟨?_, ?_, ?_⟩, fun i t ht => by simp at ht, fun i t ht => by simp at ht⟩
    · rw [hv_set_ne (by omega), hv_set_at]
    · rw [hv_set_ne (by omega), hv_set_ne (by omega), hv_set_ne (by omega), hv_set_at]; rfl
    · rw [hv_set_ne (by omega), hv_set_ne (by omega), hv_set_at]; rfl
  have z42 : hv q0 (B + 149) 42 = 0 := by rw [eq0, hv_set_at]
  rw [← eq0]
  have te_at : ∀ {q : AH}, Agr (teX B) h q → ∀ j k, hv q (w1 + j) k = hv h (w1 + j) k := fun g j k => g.at _ _ (fun z => by unfold teX teW at z; omega)
  refine eqs_all a2 l0 (by omega) (S.agr g0 (fun k _ z => by unfold teX teW at z; omega)) T0 (a6.agr (te_at g0 3) (te_at g0 4)) (fun q lq gq Tq => ?_)
  have G : Agr (teX B) h q := g0.tr gq (fun _ _ z => Or.inl z)
  have S1 : YS B w1 q := S.agr G (fun k _ z => by unfold teX teW at z; omega)
  have hi : Inv q := hInv _ _ i (G.sub (fun _ _ z => tx_sk z))
  have keep : (∀ c, B + 160 ≤ c → c ≤ B + 162 → ∀ k, hv q c k = hv h c k) ∧ (∀ k, hv q (B + 165) k = hv h (B + 165) k) ∧ ∀ k, 35 ≤ k → k ≤ 39 → hv q (B + 149) k = hv h (B + 149) k := ⟨fun c h1 h2 k => G.at _ _ (fun z => by unfold teX teW at z; omega), fun k => G.at _ _ (fun z => by unfold teX teW at z; omega), fun k h1 h2 => G.at _ _ (fun z => by unfold teX teW at z; omega)⟩
  refine Ends.eq (b615_843 lq (by omega) S1) (Ends.g ⟨by omega, by omega⟩ ?_)
  rw [tn, te_at G, te_at G, a1, e13]
  refine Ends.b4 (fun z => ?_) (fun z => ?_)
  · refine Ends.eq (b615_867 lq (by omega)) (Ends.sm (K _ ⟨G.sub (fun _ _ z => Or.inl (tx_sk z)), hi, keep.2.2, keep.1, keep.2.1, Tq, ?_⟩))
    unfold rhC
    rw [if_neg (by omega)]
    have : hv q (B + 149) 42 = hv q0 (B + 149) 42 := gq.at _ _ (fun z => by unfold teW at z; omega)
    rw [this, z42]
  · obtain ⟨w1b, HG1⟩ := HG k d q hk0 hs (by omega) lq (by omega) hi
    refine Ends.ct lq (by decide +kernel) (by decide) HG1 (fun x q2 l2 _ _ _ ⟨g2, i2, ex⟩ => ?_)
    subst ex
    refine Ends.eq (b615_864 l2 (by omega)) ?_
    have l3 : LX B n (hset q2 (B + 149) 42 (w k)) := LX.setF 149 42 l2 (by decide +kernel)
    have g3 : Agr (teX B) q2 (hset q2 (B + 149) 42 (w k)) := Agr.rf.set (Or.inr ⟨rfl, rfl⟩)
    refine Ends.eq (b615_867 l3 (by omega)) (Ends.sm (K _ ⟨((G.sub (W' := hlW B) (fun _ _ z => Or.inl (tx_sk z))).tr g2 (fun _ _ z => Or.inr z)).tr g3 (fun _ _ z => Or.inl (tx_sk z)), hInv _ _ i2 (g3.sub (fun _ _ z => tx_sk z)), fun k h1 h2 => ?_, fun c h1 h2 k => ?_, fun k => ?_, ?_, ?_⟩))
    · rw [hv_set_ne (by omega), g2.at _ _ (fun z => by unfold wvW mfW at z; omega)]; exact keep.2.2 k h1 h2
    · rw [hv_set_ne (by omega), g2.at _ _ (fun z => by unfold wvW mfW at z; omega)]; exact keep.1 c h1 h2 k
    · rw [hv_set_ne (by omega), g2.at _ _ (fun z => by unfold wvW mfW at z; omega)]; exact keep.2.1 k
    · obtain ⟨⟨t1, t2, t3⟩, t4, t5⟩ := Tq.wv g2
      refine ⟨⟨by rw [hv_set_ne (by omega)]; exact t1, by rw [hv_set_ne (by omega)]; exact t2, by rw [hv_set_ne (by omega)]; exact t3⟩, fun i t ht => ?_, fun i t ht => ?_⟩
      · rw [hv_set_ne (by omega), hv_set_ne (by omega)]; exact t4 i t ht
      · rw [hv_set_ne (by omega), hv_set_ne (by omega)]; exact t5 i t ht
    · rw [hv_set_at]
      unfold rhC
      rw [if_pos ⟨rfl, by omega⟩]
/-- a row stands for an equation, f times -/
def FitR (L : List (Nat × Int)) (y : Int) (f : Nat) (v : Nat → Int) : Prop := 1 ≤ f ∧ (∀ j, j < 24 → tmS L j = (f : Int) * v j) ∧ y = (f : Int) * v 24
/-- rows for the equations in D -/
def RwS (B : Nat) (cs : Nat → Cst) (w : Nat → Int) (sel : Nat → Bool) (D : Nat → Nat → Prop) (rm : Nat) (R : Nat → Nat → Int) (q : AH) : Prop := hv q (B + 149) 35 = (rm : Int) ∧ (∀ r, r < rm → RB (R r) ∧ (∃ k i f, D k i ∧ sel k = true ∧ okI (cs k) i ∧ FitR (eqC (cs k) i) (rhC (cs k) (w k) i) f (R r)) ∧ ∀ j, j < 25 → hv q (B + 160) (25 * r + j) = R r j) ∧ ∀ k i, D k i → sel k = true → okI (cs k) i → ∃ r f, r < rm ∧ FitR (eqC (cs k) i) (rhC (cs k) (w k) i) f (R r)
def rwsW (B : Nat) : Nat → Nat → Prop := fun c k => c = B + 160 ∨ c = B + 161 ∨ (c = B + 149 ∧ k = 35)
theorem rw_sk {B c k : Nat} (h : rwsW B c k) : skW B c k := by unfold rwsW at h; unfold skW; omega
theorem TmL.rw {q : AH} {L1 L2 : List (Nat × Int)} {f : Int} (T : TmL B h L1 L2 f) (g : Agr (rwsW B) h q) : TmL B q L1 L2 f := by
  obtain ⟨⟨t1, t2, t3⟩, t4, t5⟩ := T
  have at_ : ∀ k, 40 ≤ k → hv q (B + 149) k = hv h (B + 149) k := fun k hk => g.at _ _ (fun z => by unfold rwsW at z; omega)
  have at2 : ∀ c k, B + 163 ≤ c → hv q c k = hv h c k := fun c k hc => g.at _ _ (fun z => by unfold rwsW at z; omega)
  refine ⟨⟨by rw [at_ _ (by decide)]; exact t1, by rw [at_ _ (by decide)]; exact t2, by rw [at_ _ (by decide)]; exact t3⟩, fun i t ht => ?_, fun i t ht => ?_⟩
  · rw [at2 _ _ (by omega), at2 _ _ (by omega)]; exact t4 i t ht
  · rw [at2 _ _ (by omega), at2 _ _ (by omega)]; exact t5 i t ht
theorem RwS.keep {D D' : Nat → Nat → Prop} {rm : Nat} {R : Nat → Nat → Int} {q t : AH} (P : RwS B cs w sel D rm R q) (e35 : hv t (B + 149) 35 = hv q (B + 149) 35) (e160 : ∀ k, hv t (B + 160) k = hv q (B + 160) k) (h1 : ∀ k i, D k i → D' k i) (h2 : ∀ k i, D' k i → sel k = true → okI (cs k) i → D k i) : RwS B cs w sel D' rm R t := by
  obtain ⟨p1, p2, p3⟩ := P
  refine ⟨by rw [e35]; exact p1, fun r hr => ?_, fun k i a b c => p3 k i (h2 k i a b c) b c⟩
  obtain ⟨a1, ⟨k, i, f, a2, a3⟩, a4⟩ := p2 r hr
  exact ⟨a1, ⟨k, i, f, h1 k i a2, a3⟩, fun j hj => by rw [e160]; exact a4 j hj⟩
/-- a row more -/
theorem RwS.put {D D' : Nat → Nat → Prop} {rm k0 i0 f0 : Nat} {R : Nat → Nat → Int} {v : Nat → Int} {q t : AH} (P : RwS B cs w sel D rm R q) (e35 : hv t (B + 149) 35 = ((rm + 1 : Nat) : Int)) (e160 : ∀ r j, r < rm → j < 25 → hv t (B + 160) (25 * r + j) = hv q (B + 160) (25 * r + j)) (ev : ∀ j, j < 25 → hv t (B + 160) (25 * rm + j) = v j) (h1 : ∀ k i, D k i → D' k i) (h3 : D' k0 i0) (h2 : ∀ k i, D' k i → D k i ∨ (k = k0 ∧ i = i0)) (rb : RB v) (hs : sel k0 = true) (ok : okI (cs k0) i0) (F : FitR (eqC (cs k0) i0) (rhC (cs k0) (w k0) i0) f0 v) :
    RwS B cs w sel D' (rm + 1) (fun r => if r = rm then v else R r) t := by
  obtain ⟨p1, p2, p3⟩ := P
  refine ⟨e35, fun r hr => ?_, fun k i a b c => ?_⟩
  · by_cases z : r = rm
    · simp only [if_pos z]
      exact ⟨rb, ⟨k0, i0, f0, h3, hs, ok, F⟩, fun j hj => by rw [z]; exact ev j hj⟩
    · simp only [if_neg z]
      obtain ⟨a1, ⟨k, i, f, a2, a3⟩, a4⟩ := p2 r (by omega)
      exact ⟨a1, ⟨k, i, f, h1 k i a2, a3⟩, fun j hj => by rw [e160 r j (by omega) hj]; exact a4 j hj⟩
  · rcases h2 k i a with z | ⟨z1, z2⟩
    · obtain ⟨r, f, r1, r2⟩ := p3 k i z b c
      exact ⟨r, f, by omega, by simp only [if_neg (show ¬ r = rm by omega)]; exact r2⟩
    · rw [z1, z2]
      exact ⟨rm, f0, by omega, by simp only [if_true]; exact F⟩
theorem eqC_sec {t : Cst} (h : eq2 t.1 = true) : ¬ t.1 ≤ 5 := by
  unfold eq2 at h
  rw [Bool.or_eq_true, decide_eq_true_eq, decide_eq_true_eq] at h
  omega
set_option maxHeartbeats 1000000 in
theorem c_holds672 (l : LX B n h) (hd : 995 ≤ d) (S : YS B w1 h) (C : CsM B h w1 nk cs xa xb xc) (hInv : ∀ q q', Inv q → Agr (skW B) q q' → Inv q') (i0 : Inv h) (HG : GvC gv B n w1 nk h cs w sel Inv) (hs : ∀ k, k < nk → hv h (B + 165) k = b2i (sel k)) :
    Vt 0 (cll PP (ev PP (gsF gv) B) d 672 [(2, rf (B + 149)), (2, rf w1), (2, rf (B + 165))] h) (fun x h' => Agr (hlW B) h h' ∧ Inv h' ∧ (∀ k, hv h' (B + 165) k = hv h (B + 165) k) ∧ ((x = 1 ∧ Sat (EqE nk sel cs w) ∧ ∃ A u W C t pc, RepE 24 (EqE nk sel cs w) A ∧ (∀ v, A v → RB v) ∧ GjF B h' A u W C t pc) ∨ (x = 0 ∧ ¬ Sat (EqE nk sel cs w)))) := by
  have lo := S.lo
  refine Vt.inq (D := 994) hd (Nat.le_of_ble_eq_true rfl) rfl (fun d hd Q K => ?_)
  have main : ∀ (r0 k rm : Nat) (R : Nat → Nat → Int) (q : AH) (u4 u5 : AV), k + r0 = nk → LX B n q → Agr (hlW B) h q → (∀ k, hv q (B + 165) k = hv h (B + 165) k) → Inv q → RwS B cs w sel (fun k' _ => k' < k) rm R q → rm ≤ 2 * k → Ends (ev PP (gsF gv) B d 672 7 [(2, rf (B + 149)), (2, rf w1), (2, rf (B + 165)), (0, (k : Int)), u4, u5] [] q) Q := by
    intro r0
    induction r0 with
    | zero =>
      intro k rm R q u4 u5 ek lq g g165 i P hrm
      obtain rfl : k = nk := by omega
      have Cq := C.agr S g
      have nk32 := Cq.2.1
      refine Ends.eq (b672_7 lq (by omega) (ys_ho S g)) ?_
      rw [Cq.1]
      refine Ends.b3 (fun _ => ?_) (fun z => absurd z (Int.lt_irrefl _))
      obtain ⟨p1, p2, p3⟩ := P
      obtain ⟨A, eA⟩ : ∃ A : (Nat → Int) → Prop, A = fun v => ∃ r, r < rm ∧ v = R r := ⟨_, rfl⟩
      have hA : ∀ v, A v → RB v ∧ ∃ r, r < rm ∧ v = R r := fun v hv0 => by
        rw [eA] at hv0
        obtain ⟨r, r1, r2⟩ := hv0
        exact ⟨by rw [r2]; exact (p2 r r1).1, r, r1, r2⟩
      have hAR : ∀ r, r < rm → A (R r) := fun r hr => by rw [eA]; exact ⟨r, hr, rfl⟩
      have rep : RepE 24 (EqE k sel cs w) A := by
        refine ⟨fun a b hE => ?_, fun v hv0 => ?_⟩
        · obtain ⟨k', i', h1, h2, h3, h4, h5⟩ := hE
          subst h4 h5
          obtain ⟨-, b2, -, -, -, b6⟩ := Cq.2.2 k' h1
          have ok := eqC_ok (i := i') b2 b6.n
          refine ⟨tmS_hi _ (fun t ht => (ok.2.2.2 t ht).1), ?_⟩
          obtain ⟨r, f, r1, r2, r3, r4⟩ := p3 k' i' h1 h2 h3
          exact ⟨R r, f, hAR r r1, r3, r4⟩
        · obtain ⟨-, r, r1, r2⟩ := hA v hv0
          obtain ⟨-, ⟨k', i', f, a1, a2, a3, a4, a5, a6⟩, -⟩ := p2 r r1
          exact ⟨_, _, f, ⟨k', i', a1, a2, a3, rfl, rfl⟩, by omega, fun j hj => by rw [r2]; exact a5 j hj, by rw [r2]; exact a6⟩
      refine Ends.ct lq (by decide +kernel) (by decide) (c_eliminate606 (A := A) (R0 := R) (rm := rm) lq (by omega) (by omega) p1 hA (fun r hr => ⟨hAR r hr, (p2 r hr).2.2⟩)) (fun x q2 l2 _ _ _ ⟨g2, rx⟩ => ?_)
      have G2 : Agr (hlW B) h q2 := g.tr g2 (fun _ _ z => Or.inl (el_sk z))
      have i2 : Inv q2 := hInv _ _ i (g2.sub (fun _ _ z => el_sk z))
      refine Ends.eq (b672_131 l2 (by omega)) (Ends.g (by rcases rx with ⟨e, _⟩ | ⟨e, _⟩; exact Or.inr e; exact Or.inl e) (Ends.sm (K _ _ ⟨G2, i2, fun k => by rw [g2.at _ _ (fun z => by unfold elW at z; omega)]; exact g165 k, ?_⟩)))
      rcases rx with ⟨ex, u, W, C', t, pc, F⟩ | ⟨ex, W, C', t, v, sp, av, z0, z1⟩
      · refine Or.inl ⟨ex, ?_, A, u, W, C', t, pc, rep, fun v hv0 => (hA v hv0).1, F⟩
        have c24 : C' 24 = false := by
          cases e : C' 24
          · rfl
          · have := (F.2.2.1 24 e).1; omega
        exact sat_of rep (Nat.le_refl 24) F.1.1 c24 F.1.2.2.2
      · exact Or.inr ⟨ex, not_sat rep (Nat.le_refl 24) sp av z0 z1⟩
    | succ r0 ih =>
      intro k rm R q u4 u5 ek lq g g165 i P hrm
      have Cq := C.agr S g
      have Sq := ys_ho S g
      have nk32 := Cq.2.1
      have hk0 : k < nk := by omega
      obtain ⟨-, b2, -, -, -, b6⟩ := Cq.2.2 k hk0
      have pn := b6.n
      refine Ends.eq (b672_7 lq (by omega) Sq) ?_
      rw [Cq.1, ad_rf, lk_165 lq, tn, g165, hs k hk0]
      have next : ∀ (q' : AH) (u4 u5 : AV) (rm' : Nat) (R' : Nat → Nat → Int), LX B n q' → Agr (hlW B) h q' → (∀ k, hv q' (B + 165) k = hv h (B + 165) k) → Inv q' → RwS B cs w sel (fun k' _ => k' < k + 1) rm' R' q' → rm' ≤ 2 * (k + 1) → Ends (ev PP (gsF gv) B d 672 121 [(2, rf (B + 149)), (2, rf w1), (2, rf (B + 165)), (0, (k : Int)), u4, u5] [] q') Q := fun q' u4 u5 rm' R' l' g' g5 i' P' h' => by
        refine Ends.eq (b672_121 l' (by omega)) ?_
        rw [w_succ (by omega)]
        exact ih (k + 1) rm' R' q' _ _ (by omega) l' g' g5 i' P' h'
      refine Ends.b3 (fun z => absurd z (by omega)) (fun _ => Ends.g ⟨rf_pos _, rfl, by omega, by show ((k : Nat) : Int) < ((32 : Nat) : Int); omega⟩ (Ends.b1 (fun z => ?_) (fun z => ?_)))
      · have sk : sel k = true := by
          cases e : sel k
          · rw [e] at z; exact absurd rfl z
          · rfl
        have e13 : hv q (w1 + 13) k = hv h (w1 + 13) k := g.at _ _ (fun z => by have := ho_lo z; omega)
        refine Ends.cv lq (by decide +kernel) (c_equations615 (h0 := h) lq (by omega) Sq Cq hk0 sk hInv i HG e13) (fun q1 l1 _ _ _ ⟨g1, i1, k35, k160, k165, T1, k42⟩ => ?_)
        have G1 : Agr (hlW B) h q1 := g.tr g1 (fun _ _ z => z)
        have S1 := ys_ho S G1
        refine Ends.eq (b672_30 l1 (by omega)) ?_
        have P1 : RwS B cs w sel (fun k' i' => k' < k ∨ (k' = k ∧ i' < 0)) rm R q1 := P.keep (k35 35 (by decide) (by decide)) (k160 _ (by omega) (by omega)) (fun _ _ a => Or.inl a) (fun _ _ a _ _ => by
          rcases a with a | a
          · exact a
          · omega)
        have wb : -200 ≤ rhC (cs k) (w k) 0 ∧ rhC (cs k) (w k) 0 ≤ 200 := by
          unfold rhC
          by_cases y : (cs k).1 ≤ 5
          · rw [if_pos ⟨rfl, y⟩]; exact (HG k d q hk0 sk y lq (by omega) i).1
          · rw [if_neg (fun a => y a.2)]; decide
        obtain ⟨cnt, ecnt⟩ : ∃ cnt : Nat, cnt = if eq2 (cs k).1 = true then 2 else 1 := ⟨_, rfl⟩
        have cnt2 : cnt ≤ 2 ∧ 1 ≤ cnt := by rw [ecnt]; split <;> omega
        have eqs : ∀ (s e rm : Nat) (R : Nat → Nat → Int) (q2 : AH) (u5 : AV), e + s = cnt → LX B n q2 → Agr (rwsW B) q1 q2 → RwS B cs w sel (fun k' i' => k' < k ∨ (k' = k ∧ i' < e)) rm R q2 → rm ≤ 2 * k + e → Ends (ev PP (gsF gv) B d 672 33 [(2, rf (B + 149)), (2, rf w1), (2, rf (B + 165)), (0, (k : Int)), (0, (e : Int)), u5] [] q2) Q := by
          intro s
          induction s with
          | zero =>
            intro e rm R q2 u5 es l2 g2 P2 hrm2
            obtain rfl : e = cnt := by omega
            have T2 := T1.rw g2
            refine Ends.eq (b672_33 l2 (by omega)) ?_
            rw [T2.1.1, show cond (tst 0 (if eq2 (cs k).1 = true then (1 : Int) else 0) 0) (1 : Int) 2 = ((e : Nat) : Int) from by
              rw [ct0, ecnt]
              split
              · rw [if_neg (by decide)]; rfl
              · rw [if_pos rfl]; rfl]
            refine Ends.b3 (fun _ => ?_) (fun z => absurd z (Int.lt_irrefl _))
            refine next q2 _ _ rm R l2 (G1.tr g2 (fun _ _ z => Or.inl (rw_sk z))) (fun j => by rw [g2.at _ _ (fun z => by unfold rwsW at z; omega), k165, g165]) (hInv _ _ i1 (g2.sub (fun _ _ z => rw_sk z))) (P2.keep rfl (fun _ => rfl) (fun k' i' a => by omega) (fun k' i' a b c => ?_)) (by omega)
            by_cases y : k' < k
            · exact Or.inl y
            · have ek : k' = k := by omega
              subst ek
              refine Or.inr ⟨rfl, ?_⟩
              rw [ecnt]
              rcases c with c | ⟨c1, c2⟩
              · rw [c]; split <;> decide
              · rw [c1, if_pos c2]; decide
          | succ s ihe =>
            intro e rm R q2 u5 es l2 g2 P2 hrm2
            have T2 := T1.rw g2
            have he2 : e < 2 := by omega
            have ok : okI (cs k) e := by
              rcases (by omega : e = 0 ∨ e = 1) with y | y
              · exact Or.inl y
              · refine Or.inr ⟨y, ?_⟩
                cases e2 : eq2 (cs k).1
                · rw [e2] at ecnt
                  have : cnt = 1 := ecnt
                  omega
                · rfl
            refine Ends.eq (b672_33 l2 (by omega)) ?_
            rw [T2.1.1, show cond (tst 0 (if eq2 (cs k).1 = true then (1 : Int) else 0) 0) (1 : Int) 2 = ((cnt : Nat) : Int) from by
              rw [ct0, ecnt]
              split
              · rw [if_neg (by decide)]; rfl
              · rw [if_pos rfl]; rfl]
            refine Ends.b3 (fun z => absurd z (by omega)) (fun _ => ?_)
            have oL : RwK (eqC (cs k) e) := eqC_ok b2 pn
            have k42' : hv q2 (B + 149) 42 = rhC (cs k) (w k) 0 := by rw [g2.at _ _ (fun z => by unfold rwsW at z; omega)]; exact k42
            refine Ends.cv l2 (by decide +kernel) (c_equation614 (e := e) (L := eqC (cs k) e) l2 (by omega) he2 T2 (by rcases (by omega : e = 0 ∨ e = 1) with y | y <;> rw [y] <;> rfl) oL k42' wb) (fun q3 l3 _ _ _ ⟨g3, v3, w3⟩ => ?_)
            refine Ends.eq (b672_56 l3 (by omega)) ?_
            obtain ⟨rr, err⟩ : ∃ rr : Nat → Int, rr = fun j => hv q3 (B + 161) j := ⟨_, rfl⟩
            have r24 : rr 24 = rhC (cs k) (w k) e := by
              rw [err]
              show hv q3 (B + 161) 24 = _
              rw [w3]
              by_cases y : e = 0
              · rw [if_pos y, y]
              · rw [if_neg y]
                unfold rhC
                rw [if_neg (fun a => y a.1)]
            have rlo : ∀ j, j < 24 → rr j = tmS (eqC (cs k) e) j := fun j hj => by rw [err]; exact v3 j hj
            have rb2 : -200 ≤ rr 24 ∧ rr 24 ≤ 200 := by
              rw [r24]
              by_cases y : e = 0
              · rw [y]; exact wb
              · unfold rhC; rw [if_neg (fun a => y a.1)]; decide
            have rbd : ∀ j, j < 25 → -1000 ≤ rr j ∧ rr j ≤ 1000 := fun j hj => by
              by_cases y : j = 24
              · rw [y]; omega
              · have := tmS_abs (eqC (cs k) e) j
                have := oL.1
                rw [rlo j (by omega)]; omega
            -- the row goes to its place
            have lay : ∀ (v : Nat → Int) (f0 : Nat) (q4 : AH), LX B n q4 → Agr (fun c _ => c = B + 161) q2 q4 → (∀ j, j < 25 → hv q4 (B + 161) j = v j) → 1 ≤ f0 → (∀ j, j < 25 → rr j = (f0 : Int) * v j) → RB v → Ends (ev PP (gsF gv) B d 672 67 [(2, rf (B + 149)), (2, rf w1), (2, rf (B + 165)), (0, (k : Int)), (0, (e : Int)), u5] [] q4) Q := fun v f0 q4 l4 g4 hv4 hf0 hfv rbv => by
              have F : FitR (eqC (cs k) e) (rhC (cs k) (w k) e) f0 v := ⟨hf0, fun j hj => by rw [← rlo j hj]; exact hfv j (by omega), by rw [← r24]; exact hfv 24 (by decide)⟩
              refine Ends.eq (b672_67 l4 (by omega)) ?_
              have e35 : ∀ q5 : AH, Agr (fun c _ => c = B + 160) q4 q5 → hv q5 (B + 149) 35 = (rm : Int) := fun q5 g5 => by
                rw [g5.at _ _ (by omega), g4.at _ _ (by omega)]; exact P2.1
              have copy : ∀ (s j : Nat) (q5 : AH), j + s = 25 → LX B n q5 → Agr (fun c _ => c = B + 160) q4 q5 → (∀ r j', r < rm → j' < 25 → hv q5 (B + 160) (25 * r + j') = hv q2 (B + 160) (25 * r + j')) → (∀ j', j' < j → hv q5 (B + 160) (25 * rm + j') = v j') → Ends (ev PP (gsF gv) B d 672 70 [(2, rf (B + 149)), (2, rf w1), (2, rf (B + 165)), (0, (k : Int)), (0, (e : Int)), (0, (j : Int))] [] q5) Q := by
                intro s
                induction s with
                | zero =>
                  intro j q5 ej l5 g5 old nw
                  obtain rfl : j = 25 := by omega
                  refine Ends.eq (b672_70 l5 (by omega)) (Ends.b3 (fun _ => ?_) (fun z => absurd z (by decide)))
                  rw [e35 q5 g5, show bop32 96 (rm : Int) 1 = ((rm + 1 : Nat) : Int) from addNN (y := 1) (by omega), w_succ (by omega)]
                  have G5 : Agr (rwsW B) q1 (hset q5 (B + 149) 35 ((rm + 1 : Nat) : Int)) := ((g2.tr g4 (fun _ _ z => Or.inr (Or.inl z))).tr g5 (fun _ _ z => Or.inl z)).set (Or.inr (Or.inr ⟨rfl, rfl⟩))
                  refine ihe (e + 1) (rm + 1) _ _ _ (by omega) (LX.setF 149 35 l5 (by decide +kernel)) G5 (P2.put (k0 := k) (i0 := e) (f0 := f0) (v := v) (hv_set_at _ _ _ _) (fun r j' hr hj' => by rw [hv_set_ne (by omega)]; exact old r j' hr hj') (fun j' hj' => by rw [hv_set_ne (by omega)]; exact nw j' hj') (fun k' i' a => by omega) (Or.inr ⟨rfl, by omega⟩) (fun k' i' a => by omega) rbv sk ok F) (by omega)
                | succ s ihc =>
                  intro j q5 ej l5 g5 old nw
                  refine Ends.eq (b672_70 l5 (by omega)) (Ends.b3 (fun z => absurd z (by omega)) (fun _ => Ends.g ⟨by omega, by omega⟩ ?_))
                  rw [e35 q5 g5, ix25 (by omega) (by omega), tn, tn, an1, w_succ (by omega), g5.at _ _ (by omega), hv4 j (by omega)]
                  refine Ends.g ⟨by omega, by omega⟩ ?_
                  refine ihc (j + 1) _ (by omega) (l5.setS rfl) (g5.set rfl) (fun r j' hr hj' => by rw [hv_set_ne (by omega)]; exact old r j' hr hj') (fun j' hj' => ?_)
                  by_cases y : j' = j
                  · rw [y, hv_set_at]
                  · rw [hv_set_ne (by omega)]; exact nw j' (by omega)
              exact copy 25 0 q4 (by omega) l4 Agr.rf (fun r j' _ _ => g4.at _ _ (by omega)) (fun j' hj' => absurd hj' (Nat.not_lt_zero j'))
            refine Ends.ct l3 (by decide +kernel) (by decide) (c_isEven689 (r := rr) l3 (by omega) (fun j hj => ⟨by rw [err], (rbd j hj).1⟩)) (fun x q4 l4 _ _ _ ⟨e4, rx⟩ => ?_)
            subst e4
            refine Ends.eq (b672_60 l4 (by omega)) ?_
            rcases rx with ⟨ex, ev2⟩ | ⟨ex, ev2⟩
            · rw [ex]
              refine Ends.b0 (fun z => absurd z (by decide)) (fun _ => ?_)
              refine Ends.cv l4 (by decide +kernel) (c_reduceRow801 (r := rr) l4 (by omega) (fun j _ => by rw [err]) rbd ev2) (fun q5 l5 _ _ _ ⟨g5, f0, hf0, hf1, hf2⟩ => ?_)
              refine lay (fun j => hv q5 (B + 161) j) f0 q5 l5 (g3.tr g5 (fun _ _ z => z)) (fun _ _ => rfl) hf0 hf2 (rb_of oL rlo rb2 hf0 hf2 (by rcases hf1 with y | y; exact Or.inl y; exact Or.inr (Or.inl y)))
            · rw [ex]
              refine Ends.b0 (fun _ => ?_) (fun z => absurd rfl z)
              refine lay rr 1 q4 l4 g3 (fun j _ => by rw [err]) (Nat.le_refl 1) (fun j _ => by omega) (rb_of oL rlo rb2 (Nat.le_refl 1) (fun j _ => by omega) (Or.inr (Or.inr ?_)))
              rcases oL.2.1 with y | y
              · exact y
              · by_cases c5 : (cs k).1 ≤ 5
                · rcases (by omega : e = 0 ∨ e = 1) with y2 | y2
                  · rw [y2]; exact eqC_lo c5 pn
                  · rcases ok with z1 | ⟨_, z1⟩
                    · omega
                    · exact absurd c5 (eqC_sec z1)
                · refine absurd (fun j hj => ?_) ev2
                  by_cases y3 : j = 24
                  · rw [y3, r24]
                    unfold rhC
                    rw [if_neg (fun a => c5 a.2)]; rfl
                  · rw [rlo j (by omega)]; exact y j
        exact eqs cnt 0 rm R q1 _ (by omega) l1 Agr.rf P1 (by omega)
      · have sk : sel k = false := by
          cases e : sel k
          · rfl
          · rw [e] at z; exact absurd z (by decide)
        exact next q _ _ rm R lq g g165 i (P.keep rfl (fun _ => rfl) (fun _ _ a => by omega) (fun k' i' a b _ => by
          by_cases y : k' = k
          · rw [y, sk] at b; cases b
          · omega)) (by omega)
  refine Ends.eq (b672_0 l (by omega)) ?_
  have l1 : LX B n (hset h (B + 149) 35 0) := LX.setF 149 35 l (by decide +kernel)
  have g1 : Agr (skW B) h (hset h (B + 149) 35 0) := Agr.rf.set (Or.inl ⟨rfl, by decide, by decide⟩)
  refine main nk 0 0 (fun _ _ => 0) _ _ _ (by omega) l1 (g1.sub (fun _ _ z => Or.inl z)) (fun k => hv_set_ne (by omega)) (hInv _ _ i0 g1) ⟨hv_set_at _ _ _ _, fun r hr => absurd hr (Nat.not_lt_zero r), fun k i a => absurd a (Nat.not_lt_zero k)⟩ (Nat.le_refl 0)
end HOLDS
