/-! L3: the greatest lump (desk): the walk -/
section LMP
variable {gv : Nat → Int} {B n d se fs qu qd xe s z y ra rb best : Nat} {h h0 q : AH} {S Se T R R' : Nat → Bool} {t1 t2 : Int}
/-- the best piece's first grain -/
def BsI (B n : Nat) (h : AH) (S T : Nat → Bool) : Prop := ∃ g0, g0 < gN n ∧ S g0 = true ∧ (∀ x, x < gN n → T x = pcB n S g0 x) ∧ hv h (B + 92) 41 = ((rk n g0 : Nat) : Int) ∧ hv h (B + 92) 42 = sop64 121 1 ((gX n g0 : Nat) : Int)
def lmW (B se fs qu qd : Nat) : Nat → Nat → Prop := fun c k => flA B se fs qu qd c ∨ (c = B + 92 ∧ (k = 41 ∨ k = 42))
/-- places below s are done -/
def LmS (B n : Nat) (h0 : AH) (se fs qu qd xe : Nat) (S : Nat → Bool) (s best : Nat) (q : AH) (Se T : Nat → Bool) : Prop := Agr (lmW B se fs qu qd) h0 q ∧ Flo B n q se fs qu qd xe S Se (fun _ => false) ∧ Clo n S Se (fun _ => false) (fun _ _ => False) ∧ grR n S s (fun g => S g && !Se g) ∧ grB n S s best T (fun _ => false) ∧ best ≤ gN n ∧ (best ≠ 0 → BsI B n q S T)
theorem grR.congr (r : grR n S s R) (e : ∀ x, x < gN n → R x = R' x) : grR n S s R' := fun x hx => by rw [← e x hx]; exact r x hx
theorem grR.cov (r : grR n S s R) {g : Nat} (hg : g < gN n) (hS : S g = true) (hR : R g = false) : ∃ c1 g1, c1 < s ∧ scI n S c1 g1 ∧ Rch n S g1 g := by
  apply Classical.byContradiction
  intro z
  have := (r g hg).mpr ⟨hS, fun c1 g1 q1 q2 q3 => z ⟨c1, g1, q1, q2, q3⟩⟩
  rw [hR] at this
  exact absurd this (by decide)
/-- nothing left up to s' -/
theorem LmS.skip {s' : Nat} (i : LmS B n h0 se fs qu qd xe S s best q Se T) (hs : s ≤ s') (no : ∀ c g, s ≤ c → c < s' → scI n S c g → (S g && !Se g) = false) : LmS B n h0 se fs qu qd xe S s' best q Se T := by
  obtain ⟨a1, a2, a3, a4, a5, a6, a7⟩ := i
  have cov : ∀ c g, s ≤ c → c < s' → scI n S c g → ∃ c1 g1, c1 < s ∧ scI n S c1 g1 ∧ Rch n S g1 g := fun c g h1 h2 i => a4.cov i.2.2.1 i.2.2.2 (no c g h1 h2 i)
  exact ⟨a1, a2, a3, a4.skip hs cov, a5.skip hs cov, a6, a7⟩
theorem LmS.skip0 {s' : Nat} (i : LmS B n h0 se fs qu qd xe S s best q Se T) (hs : s ≤ s') (no : ∀ c, s ≤ c → c < s' → ¬ scV (8 * n) c) : LmS B n h0 se fs qu qd xe S s' best q Se T := i.skip hs (fun c g h1 h2 z => absurd z.1 (no c h1 h2))
theorem flA_ge {c : Nat} (F : Flo B n q se fs qu qd xe S Se R) (w : flA B se fs qu qd c) : c = B + 81 ∨ B + 246 ≤ c := by
  have A := F.1
  have h1 := A.2.2.2.2.2.2.2.1
  have h2 := A.2.2.2.2.2.2.2.2.1
  have h3 := A.2.2.2.2.2.2.2.2.2.1
  have h4 := A.2.2.2.2.2.2.2.2.2.2.1
  unfold flA at w
  omega
theorem lmW_no {c k : Nat} (F : Flo B n q se fs qu qd xe S Se R) (h1 : c ≠ B + 81) (h2 : c < B + 246) (h3 : ¬ (c = B + 92 ∧ (k = 41 ∨ k = 42))) : ¬ lmW B se fs qu qd c k := fun w => by
  rcases w with w | w
  · have := flA_ge F w; omega
  · exact h3 w
theorem Flo.agr {Wr : Nat → Nat → Prop} {wi : Nat} {Fs : Nat → Bool} {t : AH} (F : Flo B n q se fs qu qd wi S Se Fs) (g : Agr Wr q t) (h1 : ∀ k, ¬ Wr (B + 81) k) (h2 : ∀ c, (c = se ∨ c = fs ∨ c = qu ∨ c = qd ∨ c = wi) → ∀ k, ¬ Wr c k) : Flo B n t se fs qu qd wi S Se Fs := by
  obtain ⟨⟨f2, f3, f4, f5, f8, kq, kd, rest⟩, sw, ss, sf, s1, s2, Q, hd, wt, ⟨q1, q2, q3, q4, q5, q6, q7⟩, fq⟩ := F
  have v : ∀ k, hv t (B + 81) k = hv q (B + 81) k := fun k => g.at _ _ (h1 k)
  have vq : ∀ k, hv t qu k = hv q qu k := fun k => g.at _ _ (h2 qu (by omega) k)
  have vd : ∀ k, hv t qd k = hv q qd k := fun k => g.at _ _ (h2 qd (by omega) k)
  refine ⟨⟨by rw [v]; exact f2, by rw [v]; exact f3, by rw [v]; exact f4, by rw [v]; exact f5, by rw [v]; exact f8, by rw [g.hk]; exact kq, by rw [g.hk]; exact kd, rest⟩, sw.agr g (h2 wi (by omega)), ss.agr g (h2 se (by omega)), sf.agr g (h2 fs (by omega)), s1, s2, Q, hd, wt, ⟨by rw [v]; exact q1, by rw [v]; exact q2, q3, q4, fun r hr => by rw [vd]; exact q5 r hr, fun i hi => ?_, fun i j hi hj => ?_⟩, fq⟩
  · rw [vq]; exact q6 i hi
  · rw [vq, vq]; exact q7 i j hi hj
theorem c_lumpAt282 (l : LX B n h) (hd : 18 ≤ d) (hn0 : 0 < n) (hn : n ≤ 52) (m : TbC B h0) (e14 : hv h0 (B + 92) 14 = rf xe) (r : RowT ra rb t1 t2) (ha : ra < 8) (hb : rb < 8) (hz : z < n) (hy : y < n) (i : LmS B n h0 se fs qu qd xe S (rw3 (8 * n) (8 * z + ra) (8 * y + rb) 0) best h Se T) :
    Vt 0 (cll PP (ev PP (gsF gv) B) d 282 [(2, rf (B + 92)), (0, t1), (0, t2), (0, (z : Int)), (0, (y : Int)), (0, (best : Int))] h) (fun v h' => ∃ best' : Nat, v = (best' : Int) ∧ ∃ Se' T', LmS B n h0 se fs qu qd xe S (rw3 (8 * n) (8 * z + ra) (8 * y + rb + 1) 0) best' h' Se' T') := by
  refine Vt.inq (D := 17) hd (Nat.le_of_ble_eq_true rfl) rfl (fun d hd Q K => ?_)
  have hG := gN_le hn
  have hN := rows_le hn
  have ok1 : t1 = -1 ∨ ∃ t : Nat, t < 24 ∧ t1 = (t : Int) := r.1.imp id (fun ⟨t, a, b, _⟩ => ⟨t, a, b⟩)
  have ok2 : t2 = -1 ∨ ∃ t : Nat, t < 24 ∧ t2 = (t : Int) := r.2.1.imp id (fun ⟨t, a, b, _⟩ => ⟨t, a, b⟩)
  obtain ⟨Z, eZ⟩ : ∃ Z, Z = 8 * z + ra := ⟨_, rfl⟩
  obtain ⟨Y, eY⟩ : ∃ Y, Y = 8 * y + rb := ⟨_, rfl⟩
  rw [← eZ, ← eY] at i K
  have le1 : rw3 (8 * n) Z Y 0 ≤ rw3 (8 * n) Z (Y + 1) 0 := rw3_lez (Nat.le_succ Y)
  have lf : ∀ {q : AH} {Se T : Nat → Bool} {c0 best : Nat}, LmS B n h0 se fs qu qd xe S c0 best q Se T → ∀ t, (t = -1 ∨ ∃ u : Nat, u < 24 ∧ t = (u : Int)) → q279 B n q t (z : Int) (y : Int) ∧ ∀ x, x < 64 → tb (v279 B n q t (z : Int) (y : Int)) x = (decide (x < n) && lfT n (fun g => S g && !Se g) t z y x) := fun i t ht => by
    obtain ⟨a1, a2, -⟩ := i
    refine left_is hn (se := se) ?_ a2.1.1 a2.2.1 a2.2.2.1 ht hz hy
    rw [a1.at _ _ (lmW_no a2 (by omega) (by omega) (by omega))]
    exact e14
  have main : ∀ (f c0 best : Nat) (q : AH) (Se T : Nat → Bool) (u9 u10 u11 : AV), gN n < f + cntN Se (gN n) → rw3 (8 * n) Z Y 0 ≤ c0 → c0 ≤ rw3 (8 * n) Z (Y + 1) 0 → LX B n q → LmS B n h0 se fs qu qd xe S c0 best q Se T → ∀ x5 : Int, Ends (ev PP (gsF gv) B d 282 23 [(2, rf (B + 92)), (0, t1), (0, t2), (0, (z : Int)), (0, (y : Int)), (0, x5), (0, (best : Int)), (1, bop64 129 (v279 B n q t1 (z : Int) (y : Int)) (v279 B n q t2 (z : Int) (y : Int))), (9, 0), u9, u10, u11] [] q) Q := by
    intro f
    induction f with
    | zero =>
      intro c0 best q Se T u9 u10 u11 hf
      have := cntN_le Se (gN n)
      omega
    | succ f ih =>
      intro c0 best q Se T u9 u10 u11 hf hc0 hc1 lq i x5
      obtain ⟨k1, b1⟩ := lf i t1 ok1
      obtain ⟨k2, b2⟩ := lf i t2 ok2
      have bl : ∀ x, x < 64 → tb (bop64 129 (v279 B n q t1 (z : Int) (y : Int)) (v279 B n q t2 (z : Int) (y : Int))) x = (decide (x < n) && (lfT n (fun g => S g && !Se g) t1 z y x || lfT n (fun g => S g && !Se g) t2 z y x)) := fun x hx => by
        rw [tb_or, b1 x hx, b2 x hx]; cases decide (x < n) <;> simp
      -- a grain of this row that isn't left
      have lfz : ∀ x u, (t1 = ((u : Nat) : Int) ∨ t2 = (u : Int)) → (lfT n (fun g => S g && !Se g) t1 z y x || lfT n (fun g => S g && !Se g) t2 z y x) = false → (S (gI n x y z u) && !Se (gI n x y z u)) = false := fun x u hu e => by
        rw [Bool.or_eq_false_iff] at e
        unfold lfT at e
        rcases hu with hu | hu
        · have := e.1
          rw [hu, tn, decide_eq_true (Int.natCast_nonneg u), Bool.true_and] at this
          exact this
        · have := e.2
          rw [hu, tn, decide_eq_true (Int.natCast_nonneg u), Bool.true_and] at this
          exact this
      have cw : cn 1 (bop64 129 (v279 B n q t1 (z : Int) (y : Int)) (v279 B n q t2 (z : Int) (y : Int))) := cn_bop64
      refine Ends.eq (b282_23 lq (by omega)) (Ends.b0 (fun zl => ?_) (fun zl => ?_))
      · rw [cmp64_z] at zl
        refine Ends.sm (K _ _ ⟨best, rfl, Se, T, i.skip hc1 (fun c g h1 h2 ii => ?_)⟩)
        obtain ⟨x, u, q1, q2, q3, q4, q5, q6, q7⟩ := sc_in r eZ eY ha hb hz hy (by omega) h2 ii
        rw [q7]
        refine lfz x u q5 ?_
        have := bl x (by omega)
        rw [zl, tb_0, decide_eq_true q1, Bool.true_and] at this
        exact this.symm
      obtain ⟨x, lk⟩ := Low.ex cw (fun e => zl (cmp64_z.mpr e))
      have hx64 := lk.1
      have hbx := lk.2.1
      rw [bl x hx64, Bool.and_eq_true, decide_eq_true_eq] at hbx
      obtain ⟨hxn, hlf⟩ := hbx
      refine Ends.ct lq (by decide +kernel) (by decide) (c_ntz lq (by omega) lk) (fun y0 h2 l2 _ _ _ ⟨e2, e3⟩ => ?_)
      rw [e2, e3]
      clear e3 l2
      -- the sort that is taken
      obtain ⟨u, hu, hu1, hu2, esel, hR, hlo⟩ : ∃ u, u < 24 ∧ rT u 1 = rb ∧ rT u 2 = ra ∧ (if lfT n (fun g => S g && !Se g) t1 z y x = true then t1 else t2) = ((u : Nat) : Int) ∧ (S (gI n x y z u) && !Se (gI n x y z u)) = true ∧ ∀ u', u' < 24 → rT u' 1 = rb → rT u' 2 = ra → (t1 = ((u' : Nat) : Int) ∨ t2 = (u' : Int)) → rT u' 0 < rT u 0 → (S (gI n x y z u') && !Se (gI n x y z u')) = false := by
        cases e1 : lfT n (fun g => S g && !Se g) t1 z y x
        · rw [e1, Bool.false_or] at hlf
          rw [if_neg Bool.false_ne_true]
          unfold lfT at hlf e1
          rw [Bool.and_eq_true, decide_eq_true_eq] at hlf
          rcases r.2.1 with w | ⟨u, w1, w2, w3, w4⟩
          · omega
          · refine ⟨u, w1, w3, w4, w2, by have := hlf.2; rw [w2, tn] at this; exact this, fun u' v1 v2 v3 v4 v5 => ?_⟩
            rcases v4 with v4 | v4
            · rw [v4, tn, decide_eq_true (Int.natCast_nonneg u'), Bool.true_and] at e1
              exact e1
            · have : u' = u := Int.ofNat.inj (v4.symm.trans w2)
              rw [this] at v5
              omega
        · rw [if_pos rfl]
          unfold lfT at e1
          rw [Bool.and_eq_true, decide_eq_true_eq] at e1
          rcases r.1 with w | ⟨u, w1, w2, w3, w4⟩
          · omega
          · refine ⟨u, w1, w3, w4, w2, by have := e1.2; rw [w2, tn] at this; exact this, fun u' v1 v2 v3 v4 v5 => ?_⟩
            rcases v4 with v4 | v4
            · have : u' = u := Int.ofNat.inj (v4.symm.trans w2)
              rw [this] at v5
              omega
            · have := r.2.2.2 u u' w1 v1 w2 v4
              omega
      obtain ⟨g, eg⟩ : ∃ g, g = gI n x y z u := ⟨_, rfl⟩
      have hg : g < gN n := by rw [eg]; exact gI_lt hxn hy hz hu
      rw [← eg] at hR
      have hR2 := hR
      rw [Bool.and_eq_true, Bool.not_eq_true'] at hR2
      obtain ⟨hWx, hSx⟩ := hR2
      obtain ⟨a1, F, cl, a4, a5, a6, a7⟩ := i
      have iS : scI n S (rw3 (8 * n) Z Y (8 * x + rT u 0)) g := by
        have := sc_row (S := S) hu hz hy hxn (by rw [← eg]; exact hWx)
        rw [hu1, hu2, ← eZ, ← eY, ← eg] at this
        exact this
      obtain ⟨c, ec⟩ : ∃ c, c = rw3 (8 * n) Z Y (8 * x + rT u 0) := ⟨_, rfl⟩
      rw [← ec] at iS
      have ru : rT u 0 < 8 := (rT_lt ⟨u, hu⟩ 0).2
      have c0c : c0 ≤ c := by
        apply Classical.byContradiction
        intro w
        exact ((a4 g hg).mp hR).2 c g (by omega) iS Rch.rf
      have i := LmS.skip ⟨a1, F, cl, a4, a5, a6, a7⟩ c0c (fun c' g' h1 h2 ii => by
        obtain ⟨x', u', q1, q2, q3, q4, q5, q6, q7⟩ := sc_in r eZ eY ha hb hz hy (by omega) (by rw [ec] at h2; unfold rw3 at *; rw [← Nat.add_assoc, Nat.succ_mul]; omega) ii
        rw [q7]
        have r2 : rT u' 0 < 8 := (rT_lt ⟨u', q2⟩ 0).2
        have lt : 8 * x' + rT u' 0 < 8 * x + rT u 0 := by rw [q6, ec] at h2; unfold rw3 at h2; omega
        by_cases w : x' = x
        · rw [w]
          exact hlo u' q2 q3 q4 q5 (by omega)
        · refine lfz x' u' q5 ?_
          have := lk.2.2 x' (by omega)
          rw [bl x' (by omega), decide_eq_true q1, Bool.true_and] at this
          exact this)
      obtain ⟨-, -, -, a4, a5, -, -⟩ := i
      have er : v238 n (cond (tst 0 (cond (tst 1 (cmp64 (bop64 127 (sop64 123 (v279 B n q t1 (z : Int) (y : Int)) (x : Int)) 1) 1) 0) (0 : Int) 1) 0) t2 t1) (z : Int) (y : Int) = ((rw3 n u z y : Nat) : Int) := by
        rw [← row_eq hn hu hz hy, ← esel, bit_is _ hx64, b1 x hx64, decide_eq_true hxn, Bool.true_and]
        cases lfT n (fun g => S g && !Se g) t1 z y x <;> rfl
      have er2 : cond (tst 1 (cmp64 (bop64 127 (sop64 123 (v279 B n q t1 (z : Int) (y : Int)) (x : Int)) 1) 1) 0) (0 : Int) 1 = if lfT n (fun g => S g && !Se g) t1 z y x = true then 1 else 0 := by
        rw [bit_is _ hx64, b1 x hx64, decide_eq_true hxn, Bool.true_and]
        cases lfT n (fun g => S g && !Se g) t1 z y x <;> rfl
      refine Ends.eq (b282_35 (by decide) lq (by omega)) (Ends.g k1 ?_)
      rw [er, er2]
      refine Ends.cv lq (by decide +kernel) (c_pour (gv := gv) (d := d) (b := sop64 121 1 (x : Int)) lq (by omega) hn0 hn F hu hz hy) (fun h3 l3 _ _ _ ⟨f3, F3⟩ => ?_)
      have M1 : ∀ g', g' < gN n → (poM n S Se (rw3 n u z y) (sop64 121 1 (x : Int)) g' = true ↔ g' = g) := fun g' hg' => by
        obtain ⟨-, hx', -, -, -⟩ := g_lt hg'
        rw [poM_is, rk_eq hg' hz hy, one_bit hx64 (by omega), decide_eq_true_eq, eg]
        constructor
        · rintro ⟨q1, q2, -, -⟩; rw [← gI_g (n := n) (g := g'), q1.1, q1.2.1, q1.2.2, q2]
        · rintro rfl
          exact ⟨⟨gSo_I hu, gZ_I hxn hy hu, gY_I hxn hy hu⟩, gX_I hxn hu, by rw [← eg]; exact hWx, by rw [← eg]; exact hSx⟩
      have c3 : Clo n S (fun g => Se g || poM n S Se (rw3 n u z y) (sop64 121 1 (x : Int)) g) (fun g => (fun _ => false) g || poM n S Se (rw3 n u z y) (sop64 121 1 (x : Int)) g) (fun _ _ => False) := fun g g' f h1 h2 h3 h4 h5 h6 h7 h8 => by
        simp only [Bool.false_or] at h5
        have h4 : (Se g || poM n S Se (rw3 n u z y) (sop64 121 1 (x : Int)) g) = true := h4
        rw [h5, Bool.or_false] at h4
        show (Se g' || _) = true
        rw [cl g g' f h1 h2 h3 h4 rfl (fun q => q) h7 h8]; rfl
      have tb0 : ∀ {q' : AH}, Agr (lmW B se fs qu qd) h0 q' → TbC B q' := fun g => m.ext (c := 0) (s := 0) (by rw [← a1.nx]; exact lq.2.2) g.ext (fun c k h1 h2 => lmW_no F (by omega) (by omega) (by omega))
      have A3 : Agr (lmW B se fs qu qd) h0 h3 := a1.tr f3.agr (fun c k w => Or.inl w)
      refine Ends.eq (b282_93 l3 (by omega)) ?_
      refine Ends.ct l3 (by decide +kernel) (by decide) (c_run l3 (by omega) hn0 hn (tb0 A3) F3 c3) (fun v h4 l4 _ _ _ ⟨f4, S4, F4, s4, c4, ge4, kk, ev_, ck⟩ => ?_)
      have A4 : Agr (lmW B se fs qu qd) h0 h4 := A3.tr f4.agr (fun c k w => Or.inl w)
      obtain ⟨P1, P2⟩ := piece_law hg hWx hSx M1 cl s4 c4 ge4 (fun g hg e => F4.2.2.2.2.2.1 g hg e) ck
      -- the new piece
      have sub4 : ∀ x, x < gN n → Se x = true → S4 x = true := fun x hx e => (P1 x hx).mpr (Or.inl e)
      have hP : ∀ x, x < gN n → ((S4 x && !Se x) = true ↔ Rch n (fun g => S g && !Se g) g x) := fun x hx => by
        rw [Rch.sub a4.cl (fun x hx q => ((a4 x hx).mp q).1) hR, Bool.and_eq_true, Bool.not_eq_true', P1 x hx]
        constructor
        · rintro ⟨w1, w2⟩
          rcases w1 with w1 | w1
          · rw [w1] at w2; exact absurd w2 (by decide)
          · exact w1
        · intro w
          refine ⟨Or.inr w, ?_⟩
          have w' := (Rch.sub a4.cl (fun x hx q => ((a4 x hx).mp q).1) hR).mpr w
          have := (w'.inW hg hR).2
          simp only [Bool.and_eq_true, Bool.not_eq_true'] at this
          exact this.2
      have R4 : grR n S (c + 1) (fun g => S g && !S4 g) := (a4.take iS hR hP).congr (fun x hx => by
        show ((S x && !Se x) && !(S4 x && !Se x)) = _
        have := sub4 x hx
        revert this
        cases S x <;> cases Se x <;> cases S4 x <;> simp)
      have cP : cntN (fun x => S4 x && !Se x) (gN n) = kk := by
        have e1 := cntN_or (S := Se) (M := fun x => S4 x && !Se x) (gN n) (fun i hi e => by show (S4 i && !Se i) = false; rw [e]; simp)
        rw [cntN_congr (g := S4) _ (fun x hx => by
          have := sub4 x hx
          revert this
          show _ → (Se x || (S4 x && !Se x)) = S4 x
          cases Se x <;> cases S4 x <;> simp)] at e1
        omega
      obtain ⟨x1, x2⟩ := a5.take a4 iS hR hP
      rw [cP] at x1 x2
      have lt4 : cntN Se (gN n) < cntN S4 (gN n) := by
        have := pc_pos (S := S) hg
        have e : pcN n S g = kk := by
          rw [← cP]
          refine cntN_congr _ (fun x hx => Bool.eq_iff_iff.mpr ?_)
          rw [pcB_iff, hP x hx]
          exact (Rch.sub a4.cl (fun x hx q => ((a4 x hx).mp q).1) hR).symm
        omega
      have le4 := cntN_le S4 (gN n)
      have again : ∀ (bst : Nat) (q' : AH) (T' : Nat → Bool) (u9 u10 u11 : AV), LX B n q' → LmS B n h0 se fs qu qd xe S (c + 1) bst q' S4 T' → Ends (gdC (q279 B n q' t1 (z : Int) (y : Int)) (gdC (q279 B n q' t2 (z : Int) (y : Int)) (ev PP (gsF gv) B d 282 23 [(2, rf (B + 92)), (0, t1), (0, t2), (0, (z : Int)), (0, (y : Int)), (0, x5), (0, (bst : Int)), (1, bop64 129 (v279 B n q' t1 (z : Int) (y : Int)) (v279 B n q' t2 (z : Int) (y : Int))), (9, 0), u9, u10, u11] [] q'))) Q := fun bst q' T' u9 u10 u11 l' i' => by
        refine Ends.g (lf i' t1 ok1).1 (Ends.g (lf i' t2 ok2).1 ?_)
        refine ih (c + 1) bst q' S4 T' _ _ _ (by omega) (by omega) ?_ l' i' x5
        rw [ec, rw3_z]
        unfold rw3
        omega
      rw [ev_]
      refine Ends.eq (b282_100 l4 (by omega)) (Ends.b5 (fun w => ?_) (fun w => ?_))
      · refine Ends.eq (b282_145 l4 (by omega)) ?_
        exact again best h4 T _ _ _ l4 ⟨A4, F4, c4, R4, x1 (by omega), a6, fun e => by
          obtain ⟨g0, w1, w2, w3, w4, w5⟩ := a7 e
          have k92 : ∀ k, hv h4 (B + 92) k = hv q (B + 92) k := fun k => by
            rw [f4.agr.at _ _ (fun w => by have := flA_ge F w; omega), f3.agr.at _ _ (fun w => by have := flA_ge F w; omega)]
          exact ⟨g0, w1, w2, w3, by rw [k92]; exact w4, by rw [k92]; exact w5⟩⟩
      · have es : v238 n (cond (tst 0 (if lfT n (fun g => S g && !Se g) t1 z y x = true then (1 : Int) else 0) 0) t2 t1) (z : Int) (y : Int) = ((rw3 n u z y : Nat) : Int) := by
          rw [← row_eq hn hu hz hy, ← esel]
          cases lfT n (fun g => S g && !Se g) t1 z y x <;> rfl
        rw [es]
        have l5 : LX B n (hset (hset h4 (B + 92) 41 ((rw3 n u z y : Nat) : Int)) (B + 92) 42 (sop64 121 1 (x : Int))) := LX.setF 92 42 (LX.setF 92 41 l4 (by decide +kernel)) (by decide +kernel)
        refine Ends.eq (b282_145 l5 (by omega)) ?_
        have G5 : Agr (fun c k => c = B + 92 ∧ (k = 41 ∨ k = 42)) h4 (hset (hset h4 (B + 92) 41 ((rw3 n u z y : Nat) : Int)) (B + 92) 42 (sop64 121 1 (x : Int))) := (Agr.rf.set ⟨rfl, Or.inl rfl⟩).set ⟨rfl, Or.inr rfl⟩
        have F5 := F4.agr G5 (fun k w => by omega) (fun c w k e => by
          have A := F4.1
          unfold FlC at A
          omega)
        refine again kk _ (fun x => S4 x && !Se x) _ _ _ l5 ⟨A4.tr G5 (fun c k w => Or.inr w), F5, c4, R4, x2 (by omega), by have := cntN_le (fun x => S4 x && !Se x) (gN n); omega, fun _ => ⟨g, hg, hWx, fun x hx => Bool.eq_iff_iff.mpr ?_, ?_, ?_⟩⟩
        · rw [pcB_iff, hP x hx]
          exact Rch.sub a4.cl (fun x hx q => ((a4 x hx).mp q).1) hR
        · rw [hv_set_ne (by omega), hv_set_at, eg, rk_at hu hy hxn]
        · rw [hv_set_at, eg, gX_I hxn hu]
  refine Ends.eq (b282_0 l (by omega)) (Ends.g (lf i t1 ok1).1 (Ends.g (lf i t2 ok2).1 ?_))
  exact main (gN n + 1) _ best h Se T _ _ _ (by omega) (Nat.le_refl _) le1 l i _
end LMP
