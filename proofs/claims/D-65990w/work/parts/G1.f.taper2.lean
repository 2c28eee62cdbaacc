/-! L3: tapers (desk): whether a middle is in -/
noncomputable section TAPH
variable {gv : Nat → Int} {B n d a b ax s np nl nd nk : Nat} {h : AH} {S : Nat → Bool} {f : Nat → Nat → Nat} {Q : Nat → Nat → Nat → Bool} {fr lo hi x y z : Int} {up : Bool}
/-- how far it is from where a taper begins -/
def tpH (fr : Int) (up : Bool) (w : Int) : Int := if up = true then w - 8 * fr else 8 * fr - w
set_option maxHeartbeats 2000000 in
theorem c_has458 (l : LX B n h) (hd : 10 ≤ d) (hn : n ≤ 52) (hax : ax < 3) (T : TpF B n h ax fr up f) (hf : ∀ v u, f v u ≤ 1) (bx : 0 ≤ x ∧ x < 8 * n) (by_ : 0 ≤ y ∧ y < 8 * n) (bz : 0 ≤ z ∧ z < 8 * n) (bf : -400 ≤ fr ∧ fr ≤ 400) (hh : 0 < tpH fr up (c3 x y z ax)) :
    cll PP (ev PP (gsF gv) B) d 458 [(2, rf (B + 115)), (0, x), (0, y), (0, z)] h = some ((0, (0, if tpB n f (c3 x y z (fA ax)) (c3 x y z (sA ax)) (tpH fr up (c3 x y z ax)) = true then 1 else 0)), h) := by
  have V : Vt 0 (cll PP (ev PP (gsF gv) B) d 458 [(2, rf (B + 115)), (0, x), (0, y), (0, z)] h) (fun v h' => h' = h ∧ v = if tpB n f (c3 x y z (fA ax)) (c3 x y z (sA ax)) (tpH fr up (c3 x y z ax)) = true then 1 else 0) := by
    refine Vt.inq (D := 9) hd (Nat.le_of_ble_eq_true rfl) rfl (fun d hd P K => ?_)
    obtain ⟨⟨t2, t3, t4⟩, T5⟩ := T
    have bA := c3_b (k := fA ax) (u := 0) (v := 8 * (n : Int) - 1) (x := x) (y := y) (z := z) ⟨by omega, by omega⟩ ⟨by omega, by omega⟩ ⟨by omega, by omega⟩
    have bC := c3_b (k := sA ax) (u := 0) (v := 8 * (n : Int) - 1) (x := x) (y := y) (z := z) ⟨by omega, by omega⟩ ⟨by omega, by omega⟩ ⟨by omega, by omega⟩
    have bW := c3_b (k := ax) (u := 0) (v := 8 * (n : Int) - 1) (x := x) (y := y) (z := z) ⟨by omega, by omega⟩ ⟨by omega, by omega⟩ ⟨by omega, by omega⟩
    obtain ⟨A, eA⟩ : ∃ A, A = c3 x y z (fA ax) := ⟨_, rfl⟩
    obtain ⟨C, eC⟩ : ∃ C, C = c3 x y z (sA ax) := ⟨_, rfl⟩
    obtain ⟨W, eW⟩ : ∃ W, W = c3 x y z ax := ⟨_, rfl⟩
    obtain ⟨H, eH⟩ : ∃ H, H = tpH fr up (c3 x y z ax) := ⟨_, rfl⟩
    rw [← eA] at bA
    rw [← eC] at bC
    rw [← eW] at bW
    have eHW : H = if up = true then W - 8 * fr else 8 * fr - W := by rw [eH, eW]; rfl
    rw [← eH] at hh
    rw [← eA, ← eC, ← eH] at K
    have bH : H ≤ 3700 := by rw [eHW]; split <;> omega
    have n1 : bop32 104 8 fr = 8 * fr := mul32 (by omega) (by omega)
    have eh : cond (tst 0 (if up = true then (1 : Int) else 0) 0) (bop32 100 (8 * fr) W) (bop32 100 W (8 * fr)) = H := by
      rw [ct0, eHW]
      cases up
      · rw [if_neg Bool.false_ne_true, if_pos rfl, if_neg Bool.false_ne_true]
        exact sub32 (by omega) (by omega)
      · rw [if_pos rfl, if_neg (by decide), if_pos rfl]
        exact sub32 (by omega) (by omega)
    have f1 : v888 (bop32 100 A H) 8 = (A - H) / 8 := by
      rw [sub32 (by omega) (by omega)]
      exact v888_8 (by omega) (by omega)
    have f2 : uop 0 (v888 (bop32 100 (uop 0 A) H) 8) = -((-A - H) / 8) := by
      rw [neg32 (x := A) (by omega) (by omega), sub32 (by omega) (by omega), v888_8 (by omega) (by omega)]
      exact neg32 (by omega) (by omega)
    have f3 : v888 (bop32 100 C H) 8 = (C - H) / 8 := by
      rw [sub32 (by omega) (by omega)]
      exact v888_8 (by omega) (by omega)
    have f4 : uop 0 (v888 (bop32 100 (uop 0 C) H) 8) = -((-C - H) / 8) := by
      rw [neg32 (x := C) (by omega) (by omega), sub32 (by omega) (by omega), v888_8 (by omega) (by omega)]
      exact neg32 (by omega) (by omega)
    obtain ⟨u0, eu0⟩ : ∃ u, u = (A - H) / 8 := ⟨_, rfl⟩
    obtain ⟨u1, eu1⟩ : ∃ u, u = -((-A - H) / 8) := ⟨_, rfl⟩
    obtain ⟨v0, ev0⟩ : ∃ u, u = (C - H) / 8 := ⟨_, rfl⟩
    obtain ⟨v1, ev1⟩ : ∃ u, u = -((-C - H) / 8) := ⟨_, rfl⟩
    have lu : u0 < u1 := by omega
    have lv_ : v0 < v1 := by omega
    have rU : ∀ X : Int, (A - H < 8 * X + 8 ∧ 8 * X < A + H) ↔ (u0 ≤ X ∧ X < u1) := fun X => by omega
    have rV : ∀ X : Int, (C - H < 8 * X + 8 ∧ 8 * X < C + H) ↔ (v0 ≤ X ∧ X < v1) := fun X => by omega
    have no : (u0 < 0 ∨ v0 < 0 ∨ (n : Int) < u1 ∨ (n : Int) < v1) → ∀ u4 u5 u6 u7 u8 u9 u10 u11 : Int, ∀ u12 : AV, Ends (ev PP (gsF gv) B d 458 167 [(2, rf (B + 115)), (0, x), (0, y), (0, z), (0, u4), (0, u5), (0, u6), (0, u7), (0, u8), (0, u9), (0, u10), (0, u11), u12] [] h) P := fun w u4 u5 u6 u7 u8 u9 u10 u11 u12 => by
      refine Ends.eq (b458_167 l (by omega)) (Ends.sm (K _ _ ⟨rfl, ?_⟩))
      rw [tpB_f (fun t => ?_), if_neg Bool.false_ne_true]
      have q1 := (rU u0).mpr ⟨Int.le_refl _, lu⟩
      have q2 := (rV v0).mpr ⟨Int.le_refl _, lv_⟩
      have q3 := (rU (u1 - 1)).mpr ⟨by omega, by omega⟩
      have q4 := (rV (v1 - 1)).mpr ⟨by omega, by omega⟩
      have w1 := t u0 v0 q1.1 q1.2 q2.1 q2.2
      have w2 := t (u1 - 1) (v1 - 1) q3.1 q3.2 q4.1 q4.2
      omega
    refine Ends.eq (b458_0 l (by omega)) ?_
    rw [t2, t3, t4, c3A (x := x) (y := y) (z := z), c3S (x := x) (y := y) (z := z), c3W (x := x) (y := y) (z := z), ← eA, ← eC, ← eW, n1, eh, f1, f2, f3, f4, ← eu0, ← eu1, ← ev0, ← ev1]
    clear f1 f2 f3 f4 eh n1
    refine Ends.g (by unfold q888; decide) (Ends.g (by unfold q888; decide) (Ends.g (by unfold q888; decide) (Ends.g (by unfold q888; decide) (Ends.b2 (fun w => no (Or.inl w) _ _ _ _ _ _ _ _ _) (fun w1 => Ends.b2 (fun w => no (Or.inr (Or.inl w)) _ _ _ _ _ _ _ _ _) (fun w2 => Ends.b4 (fun w => no (Or.inr (Or.inr (Or.inl w))) _ _ _ _ _ _ _ _ _) (fun w3 => Ends.b5 (fun w4 => ?_) (fun w => no (Or.inr (Or.inr (Or.inr (by omega)))) _ _ _ _ _ _ _ _ _))))))))
    clear no
    clear eu0 eu1 ev0 ev1
    obtain ⟨p0, rfl⟩ : ∃ p : Nat, u0 = (p : Int) := ⟨u0.toNat, by omega⟩
    obtain ⟨q0, rfl⟩ : ∃ p : Nat, v0 = (p : Int) := ⟨v0.toNat, by omega⟩
    obtain ⟨p1, rfl⟩ : ∃ p : Nat, u1 = ((p0 + p : Nat) : Int) := ⟨(u1 - (p0 : Int)).toNat, by omega⟩
    obtain ⟨q1, rfl⟩ : ∃ p : Nat, v1 = ((q0 + p : Nat) : Int) := ⟨(v1 - (q0 : Int)).toNat, by omega⟩
    rw [tp_ix (y := q0 + q1) (x := p0 + p1) hn (by omega) (by omega), tp_ix (y := q0) (x := p0 + p1) hn (by omega) (by omega), tp_ix (y := q0 + q1) (x := p0) hn (by omega) (by omega), tp_ix (y := q0) (x := p0) hn (by omega) (by omega)]
    simp only [tn]
    rw [T5 (q0 + q1) (p0 + p1) (by omega) (by omega), T5 q0 (p0 + p1) (by omega) (by omega), T5 (q0 + q1) p0 (by omega) (by omega), T5 q0 p0 (by omega) (by omega)]
    have g1 := tp_lt (n := n) (y := q0 + q1) (x := p0 + p1) (by omega) (by omega)
    have g2 := tp_lt (n := n) (y := q0) (x := p0 + p1) (by omega) (by omega)
    have g3 := tp_lt (n := n) (y := q0 + q1) (x := p0) (by omega) (by omega)
    have g4 := tp_lt (n := n) (y := q0) (x := p0) (by omega) (by omega)
    have rect := ps_rect (f := f) (v0 := q0) (p := q1) (u0 := p0) (q := p1)
    have full := rect_full hf (v0 := q0) (p := q1) (u0 := p0) (q := p1)
    have l1 := ps_le hf (q0 + q1) (p0 + p1)
    have l2 := ps_le hf q0 (p0 + p1)
    have l3 := ps_le hf (q0 + q1) p0
    have l4 := ps_le hf q0 p0
    have k1 := Nat.mul_le_mul (show q0 + q1 ≤ 52 by omega) (show p0 + p1 ≤ 52 by omega)
    have k2 := Nat.mul_le_mul (show q0 ≤ 52 by omega) (show p0 + p1 ≤ 52 by omega)
    have k3 := Nat.mul_le_mul (show q0 + q1 ≤ 52 by omega) (show p0 ≤ 52 by omega)
    have k4 := Nat.mul_le_mul (show q0 ≤ 52 by omega) (show p0 ≤ 52 by omega)
    have k5 := Nat.mul_le_mul (show p1 ≤ 52 by omega) (show q1 ≤ 52 by omega)
    generalize sumN (fun j => sumN (fun i => f (q0 + j) (p0 + i)) p1) q1 = rc at *
    generalize psF f (q0 + q1) (p0 + p1) = a11 at *
    generalize psF f q0 (p0 + p1) = a01 at *
    generalize psF f (q0 + q1) p0 = a10 at *
    generalize psF f q0 p0 = a00 at *
    have es : bop32 96 (bop32 100 (bop32 100 ((a11 : Nat) : Int) ((a01 : Nat) : Int)) ((a10 : Nat) : Int)) ((a00 : Nat) : Int) = (rc : Int) := by
      rw [sub32 (x := (a11 : Int)) (by omega) (by omega), sub32 (x := (a11 : Int) - (a01 : Int)) (by omega) (by omega), add32 (by omega) (by omega)]
      omega
    have ef : bop32 104 (bop32 100 ((p0 + p1 : Nat) : Int) ((p0 : Nat) : Int)) (bop32 100 ((q0 + q1 : Nat) : Int) ((q0 : Nat) : Int)) = ((p1 * q1 : Nat) : Int) := by
      rw [show bop32 100 ((p0 + p1 : Nat) : Int) ((p0 : Nat) : Int) = ((p1 : Nat) : Int) from by rw [subNN (by omega) (by omega)]; congr 1; omega, show bop32 100 ((q0 + q1 : Nat) : Int) ((q0 : Nat) : Int) = ((q1 : Nat) : Int) from by rw [subNN (by omega) (by omega)]; congr 1; omega]
      exact mulNN (by omega)
    rw [es, ef, ct1]
    clear es ef
    refine Ends.g ⟨by omega, by omega⟩ (Ends.g ⟨by omega, by omega⟩ (Ends.g ⟨by omega, by omega⟩ (Ends.g ⟨by omega, by omega⟩ (Ends.sm (K _ _ ⟨rfl, ?_⟩)))))
    by_cases eqf : rc = p1 * q1
    · rw [if_pos (by omega), tpB_t (fun X Y h1 h2 h3 h4 => ?_), if_pos rfl]
      have a1 := (rU X).mp ⟨h1, h2⟩
      have a2 := (rV Y).mp ⟨h3, h4⟩
      refine ⟨⟨by omega, by omega⟩, ⟨by omega, by omega⟩, ?_⟩
      have := full.mp eqf (Y - (q0 : Int)).toNat (X - (p0 : Int)).toNat (by omega) (by omega)
      rw [show q0 + (Y - (q0 : Int)).toNat = Y.toNat by omega, show p0 + (X - (p0 : Int)).toNat = X.toNat by omega] at this
      exact this
    · rw [if_neg (by omega), tpB_f (fun t => eqf (full.mpr (fun j i hj hi => ?_))), if_neg Bool.false_ne_true]
      have a1 := (rU ((p0 + i : Nat) : Int)).mpr ⟨by omega, by omega⟩
      have a2 := (rV ((q0 + j : Nat) : Int)).mpr ⟨by omega, by omega⟩
      have := (t ((p0 + i : Nat) : Int) ((q0 + j : Nat) : Int) a1.1 a1.2 a2.1 a2.2).2.2
      exact this
  obtain ⟨v, h', e, e1, e2⟩ := V
  rw [e, e1, e2]
/-- a taper's grains -/
noncomputable def tpG (n ax : Nat) (f : Nat → Nat → Nat) (p q : Int) (g : Nat) : Bool := btG n ax (if q < p then q else p) (if q < p then p else q) g && tpB n f ((g8 n g (fA ax) : Nat) : Int) ((g8 n g (sA ax) : Nat) : Int) (tpH p (decide (p < q)) ((g8 n g ax : Nat) : Int))
end TAPH
