/-! L3: Formulas: pair, rest, three, alone -/
/-- the quotient's parts: what is divided, by what -/
def dvA (x y : Fq) : Int := if y.1 < 0 then -x.1 * y.2.1 else x.1 * y.2.1
def dvB (x y : Fq) : Int := x.2.1 * (y.1.natAbs : Int)
def fRest (x y : Fq) : Fq := mkF (if y.1 < 0 then -(dvA x y % dvB x y) else dvA x y % dvB x y) (x.2.1 * y.2.1) x.2.2.1
def fPair (f : Nat) (x y : Fq) : Fq :=
  if bd2 true x y ≠ 0 then flt (bd2 true x y)
  else if f < 2 then (if decide (cmpZ (x.1 * y.2.1) (y.1 * x.2.1) ≤ 0) = decide (f = 0) then (x.1, x.2.1, x.2.2.1, 0) else (y.1, y.2.1, y.2.2.1, 0))
  else if y.1 = 0 then flt 2
  else if f = 3 then mkF (dvA x y / dvB x y) 1 0 else fRest x y
section OPS2
variable {gv : Nat → Int} {B n d k : Nat} {h : AH}
theorem dv_r {x y : Fq} (ox : FOK x) (oy : FOK y) (x0 : x.2.2.2 = 0) (y0 : y.2.2.2 = 0) (hz : y.1 ≠ 0) : (-1000000000000000000 ≤ dvA x y ∧ dvA x y ≤ 1000000000000000000) ∧ (0 < dvB x y ∧ dvB x y ≤ 1000000000000000000) ∧ cond (tst 3 (cmp64 y.1 0) 0) (bop64 105 x.1 y.2.1) (bop64 105 (uop 1 x.1) y.2.1) = dvA x y ∧ bop64 105 x.2.1 (v887 y.1) = dvB x y := by
  obtain ⟨xa, xb, xk, xg⟩ := ox.b x0
  obtain ⟨ya, yb, yk, yg⟩ := oy.b y0
  have m1 := mulB xa (show -1000000000 ≤ y.2.1 ∧ y.2.1 ≤ 1000000000 by omega)
  have m2 := mulB (show -1000000000 ≤ -x.1 ∧ -x.1 ≤ 1000000000 by omega) (show -1000000000 ≤ y.2.1 ∧ y.2.1 ≤ 1000000000 by omega)
  have m3 := mulB (show -1000000000 ≤ x.2.1 ∧ x.2.1 ≤ 1000000000 by omega) (show -1000000000 ≤ (y.1.natAbs : Int) ∧ (y.1.natAbs : Int) ≤ 1000000000 by omega)
  have m4 : 1 * 1 ≤ x.2.1 * (y.1.natAbs : Int) := Int.mul_le_mul xb.1 (by omega) (by decide) (by omega)
  unfold dvA dvB
  refine ⟨by split <;> omega, by omega, ?_, ?_⟩
  · rw [tc3, neg64 (by omega) (by omega), mul64 (by omega) (by omega), mul64 (by omega) (by omega)]
    by_cases q : y.1 < 0
    · rw [if_pos q, decide_eq_false (by omega)]; rfl
    · rw [if_neg q, decide_eq_true (by omega)]; rfl
  · rw [abs64 (by omega) (by omega), mul64 (by omega) (by omega)]
theorem c_rest (l : LX B n h) (hd : 13 ≤ d) (h8 : hv h (B + 7) 8 = (k : Int)) (hk : k < 200) {x y : Fq} (ox : FOK x) (oy : FOK y) (x0 : x.2.2.2 = 0) (y0 : y.2.2.2 = 0) (hz : y.1 ≠ 0) : Vd (cll PP (ev PP (gsF gv) B) d 216 [(2, rf (B + 7)), (1, x.1), (1, x.2.1), (1, y.1), (1, y.2.1), (0, x.2.2.1)] h) (fun h' => PutR B k h (fRest x y) h') := by
  obtain ⟨d1, d2, d3, d4⟩ := dv_r ox oy x0 y0 hz
  obtain ⟨xa, xb, xk, xg⟩ := ox.b x0
  obtain ⟨ya, yb, yk, yg⟩ := oy.b y0
  have m1 := mulB (show -1000000000 ≤ x.2.1 ∧ x.2.1 ≤ 1000000000 by omega) (show -1000000000 ≤ y.2.1 ∧ y.2.1 ≤ 1000000000 by omega)
  have m4 : 1 * 1 ≤ x.2.1 * y.2.1 := Int.mul_le_mul xb.1 yb.1 (by decide) (by omega)
  refine Vd.into (D := 12) hd (Nat.le_of_ble_eq_true rfl) rfl (fun d hd => ?_)
  refine Ends.eq (b216_0 (n := n) (by (repeat' first | assumption | refine LX.setF _ _ ?_ (by decide +kernel) | refine LX.setS ?_ rfl | refine LX.setA ?_ (by first | assumption | omega))) (by first | assumption | omega)) ?_
  rw [d3, d4]
  clear d3 d4
  have r1 := Int.emod_nonneg (dvA x y) (show dvB x y ≠ 0 by omega)
  have r2 := Int.emod_lt_of_pos (dvA x y) d2.1
  rw [fmodL (by omega) (by omega) d2.1 (by omega), mul64 (by omega) (by omega), neg64 (by omega) (by omega), tc3]
  refine Ends.g (show dvB x y ≠ 0 by omega) ?_
  have e : cond (decide (0 ≤ y.1)) (dvA x y % dvB x y) (-(dvA x y % dvB x y)) = if y.1 < 0 then -(dvA x y % dvB x y) else dvA x y % dvB x y := by
    by_cases q : y.1 < 0
    · rw [if_pos q, decide_eq_false (by omega)]; rfl
    · rw [if_neg q, decide_eq_true (by omega)]; rfl
  rw [e]
  refine Ends.cv l (by decide +kernel) (c_lay l (by omega) h8 hk (by split <;> omega) (by omega) (by omega)) (fun q2 l3 _ _ _ P => ?_)
  refine Ends.eq (b216_56 (n := n) (by (repeat' first | assumption | refine LX.setF _ _ ?_ (by decide +kernel) | refine LX.setS ?_ rfl | refine LX.setA ?_ (by first | assumption | omega))) (by first | assumption | omega)) ?_
  exact Ends.sm ⟨_, rfl, P⟩
theorem c_pair (l : LX B n h) (hd : 15 ≤ d) (h8 : hv h (B + 7) 8 = ((k + 2 : Nat) : Int)) (hk : k < 198) (o1 : FOK (frA B h k)) (o2 : FOK (frA B h (k + 1))) {f : Nat} (hf : f < 4) : Vd (cll PP (ev PP (gsF gv) B) d 214 [(2, rf (B + 7)), (0, (f : Int))] h) (fun h' => PutR B k h (fPair f (frA B h k) (frA B h (k + 1))) h') := by
  refine Vd.into (D := 14) hd (Nat.le_of_ble_eq_true rfl) rfl (fun d hd => ?_)
  refine Ends.eq (b214_0 (n := n) (by (repeat' first | assumption | refine LX.setF _ _ ?_ (by decide +kernel) | refine LX.setS ?_ rfl | refine LX.setA ?_ (by first | assumption | omega))) (by first | assumption | omega)) ?_
  refine Ends.ct l (by decide +kernel) (by decide) (c_bad2 (al := true) l (by omega) h8 hk rfl) (fun v q1 l1 _ _ _ R => ?_)
  refine Ends.eq (b214_6 (n := n) (by (repeat' first | assumption | refine LX.setF _ _ ?_ (by decide +kernel) | refine LX.setS ?_ rfl | refine LX.setA ?_ (by first | assumption | omega))) (by first | assumption | omega)) ?_
  rcases R with ⟨f0, rfl, rfl⟩ | ⟨f0, rfl, g1, g2, g3⟩
  case inr =>
    refine Ends.b0 (fun z => absurd z (by decide)) (fun _ => Ends.sm ⟨_, rfl, g1, g2, ?_⟩)
    unfold fPair
    rw [if_pos f0]; exact g3
  obtain ⟨x0, y0, al0⟩ := bd2_0 f0
  obtain ⟨xa, xb, xk, xg⟩ := o1.b x0
  obtain ⟨ya, yb, yk, yg⟩ := o2.b y0
  have l2 : LX B n (hset q1 (B + 7) 8 (k : Int)) := LX.setF 7 8 l (by decide +kernel)
  have a2 : Agr (plW B k) q1 (hset q1 (B + 7) 8 (k : Int)) := Agr.rf.set (Or.inl ⟨rfl, rfl⟩)
  have h82 : hv (hset q1 (B + 7) 8 (k : Int)) (B + 7) 8 = (k : Int) := hv_set_at ..
  have a3 : Agr (fun c z => c = B + 7 ∧ z = 8) q1 (hset q1 (B + 7) 8 (k : Int)) := Agr.rf.set ⟨rfl, rfl⟩
  have fr : ∀ i, frA B (hset q1 (B + 7) 8 (k : Int)) i = frA B q1 i := fun i => frA_agr a3 (fun c h1 h2 z => by omega)
  have eT : fPair f (frA B q1 k) (frA B q1 (k + 1)) = _ := if_neg (fun w => w f0)
  rw [eT, h8, b100_2 (by omega), b96_1 (by omega), tn, tn]
  refine Ends.b0 (fun _ => Ends.b3 (fun z => ?_) (fun z => ?_)) (fun z => absurd rfl z)
  · rw [if_neg (by omega)]
    refine Ends.g ⟨by omega, by omega⟩ (Ends.l1 (fun nz => ?_) (fun nz => ?_))
    · have nz : (frA B q1 (k + 1)).1 ≠ 0 := nz
      obtain ⟨d1, d2, d3, d4⟩ := dv_r o1 o2 x0 y0 nz
      have d3 : cond (tst 3 (cmp64 (hv q1 (B + 11) (k + 1)) 0) 0) (bop64 105 (hv q1 (B + 11) k) (hv q1 (B + 12) (k + 1))) (bop64 105 (uop 1 (hv q1 (B + 11) k)) (hv q1 (B + 12) (k + 1))) = dvA (frA B q1 k) (frA B q1 (k + 1)) := d3
      have d4 : bop64 105 (hv q1 (B + 12) k) (v887 (hv q1 (B + 11) (k + 1))) = dvB (frA B q1 k) (frA B q1 (k + 1)) := d4
      rw [d3, d4, if_neg nz]
      clear d3 d4
      refine Ends.g ⟨by omega, by omega⟩ (Ends.g (show dvB (frA B q1 k) (frA B q1 (k + 1)) ≠ 0 by omega) (Ends.b1 (fun e3 => ?_) (fun e3 => ?_)))
      · rw [if_neg (by omega)]
        refine Ends.cv l2 (by decide +kernel) (c_rest (k := k) (x := frA B q1 k) (y := frA B q1 (k + 1)) l2 (by omega) h82 (by omega) o1 o2 x0 y0 nz) (fun q2 l3 _ _ _ P => ?_)
        refine Ends.eq (b214_190 (n := n) (by (repeat' first | assumption | refine LX.setF _ _ ?_ (by decide +kernel) | refine LX.setS ?_ rfl | refine LX.setA ?_ (by first | assumption | omega))) (by first | assumption | omega)) ?_
        exact Ends.sm ⟨_, rfl, a2.tr P.1 (fun _ _ z => z), P.2⟩
      · rw [if_pos (by omega), fdivL (by omega) (by omega) d2.1 (by omega)]
        have bd := ldiv_b (x := dvA (frA B q1 k) (frA B q1 (k + 1))) (y := dvB (frA B q1 k) (frA B q1 (k + 1))) (by omega) (by omega) d2.1
        refine Ends.cv l2 (by decide +kernel) (c_lay (k := k) l2 (by omega) h82 (by omega) bd (by omega) (by decide)) (fun q2 l3 _ _ _ P => ?_)
        refine Ends.eq (b214_169 (n := n) (by (repeat' first | assumption | refine LX.setF _ _ ?_ (by decide +kernel) | refine LX.setS ?_ rfl | refine LX.setA ?_ (by first | assumption | omega))) (by first | assumption | omega)) ?_
        refine Ends.eq (b214_190 (n := n) (by (repeat' first | assumption | refine LX.setF _ _ ?_ (by decide +kernel) | refine LX.setS ?_ rfl | refine LX.setA ?_ (by first | assumption | omega))) (by first | assumption | omega)) ?_
        exact Ends.sm ⟨_, rfl, a2.tr P.1 (fun _ _ z => z), P.2⟩
    · have nz : (frA B q1 (k + 1)).1 = 0 := nz
      rw [if_pos nz]
      refine Ends.cv l2 (by decide +kernel) (c_fail (k := k) l2 (by omega) h82 (by omega)) (fun q2 l3 _ _ _ P => ?_)
      refine Ends.eq (b214_89 (n := n) (by (repeat' first | assumption | refine LX.setF _ _ ?_ (by decide +kernel) | refine LX.setS ?_ rfl | refine LX.setA ?_ (by first | assumption | omega))) (by first | assumption | omega)) ?_
      exact Ends.sm ⟨_, rfl, a2.tr P.1 (fun _ _ z => z), P.2⟩
  · rw [if_pos (by omega)]
    have m1 := mulB xa (show -1000000000 ≤ (frA B q1 (k + 1)).2.1 ∧ (frA B q1 (k + 1)).2.1 ≤ 1000000000 by omega)
    have m2 := mulB ya (show -1000000000 ≤ (frA B q1 k).2.1 ∧ (frA B q1 k).2.1 ≤ 1000000000 by omega)
    have eo : v213 B (hset q1 (B + 7) 8 (k : Int)) (k : Int) ((k + 1 : Nat) : Int) = cmpZ ((frA B q1 k).1 * (frA B q1 (k + 1)).2.1) ((frA B q1 (k + 1)).1 * (frA B q1 k).2.1) := by
      unfold v213
      rw [tn, tn, hv_na (by omega), hv_na (by omega), hv_na (by omega), hv_na (by omega)]
      show v881 (bop64 105 (frA B q1 k).1 (frA B q1 (k + 1)).2.1) (bop64 105 (frA B q1 (k + 1)).1 (frA B q1 k).2.1) = _
      rw [mul64 (by omega) (by omega), mul64 (by omega) (by omega), cmpL]; rfl
    rw [eo]
    clear eo
    refine Ends.g ⟨⟨by omega, by omega⟩, ⟨by omega, by omega⟩⟩ ?_
    generalize cmpZ ((frA B q1 k).1 * (frA B q1 (k + 1)).2.1) ((frA B q1 (k + 1)).1 * (frA B q1 k).2.1) = o
    have ei : cond (tst 1 (cond (tst 4 o 0) (0 : Int) 1) (cond (tst 1 (f : Int) 0) (0 : Int) 1)) ((k + 1 : Nat) : Int) (k : Int) = (((if decide (o ≤ 0) = decide (f = 0) then k else k + 1 : Nat)) : Int) := by
      rw [tst4, tst1, tst1]
      by_cases q1 : 0 < o <;> by_cases q2 : f = 0
      · rw [decide_eq_true q1, decide_eq_true (show ((f : Nat) : Int) = 0 by omega), decide_eq_false (show ¬ o ≤ 0 by omega), decide_eq_true q2]; rfl
      · rw [decide_eq_true q1, decide_eq_false (show ¬ ((f : Nat) : Int) = 0 by omega), decide_eq_false (show ¬ o ≤ 0 by omega), decide_eq_false q2]; rfl
      · rw [decide_eq_false q1, decide_eq_true (show ((f : Nat) : Int) = 0 by omega), decide_eq_true (show o ≤ 0 by omega), decide_eq_true q2]; rfl
      · rw [decide_eq_false q1, decide_eq_false (show ¬ ((f : Nat) : Int) = 0 by omega), decide_eq_true (show o ≤ 0 by omega), decide_eq_false q2]; rfl
    rw [ei]
    refine Ends.cv l2 (by decide +kernel) (c_keep (k := k) (w := if decide (o ≤ 0) = decide (f = 0) then k else k + 1) l2 (by omega) h82 (by omega) (by split <;> omega)) (fun q2 l3 _ _ _ P => ?_)
    refine Ends.eq (b214_72 (n := n) (by (repeat' first | assumption | refine LX.setF _ _ ?_ (by decide +kernel) | refine LX.setS ?_ rfl | refine LX.setA ?_ (by first | assumption | omega))) (by first | assumption | omega)) ?_
    refine Ends.sm ⟨_, rfl, a2.tr P.1 (fun _ _ z => z), P.2.1, ?_⟩
    rw [P.2.2, fr]
    split <;> rfl
def ordF (x y : Fq) : Int := cmpZ (x.1 * y.2.1) (y.1 * x.2.1)
def k0 (x : Fq) : Fq := (x.1, x.2.1, x.2.2.1, 0)
def fThree (x y z : Fq) : Fq :=
  if bd3 x y z ≠ 0 then flt (bd3 x y z)
  else if 0 < ordF x y then (if 0 < ordF z y then (if ordF z x < 0 then k0 z else k0 x) else k0 y)
  else (if 0 < ordF z x then (if ordF z y < 0 then k0 z else k0 y) else k0 x)
theorem bd3_0 {x y z : Fq} (e : bd3 x y z = 0) : x.2.2.2 = 0 ∧ y.2.2.2 = 0 ∧ z.2.2.2 = 0 := by
  unfold bd3 at e
  by_cases h1 : x.2.2.2 = 0
  · by_cases h2 : y.2.2.2 = 0
    · by_cases h3 : z.2.2.2 = 0
      · exact ⟨h1, h2, h3⟩
      · rw [if_neg (fun w => w h1), if_neg (fun w => w h2), if_pos h3] at e; exact absurd e h3
    · rw [if_neg (fun w => w h1), if_pos h2] at e; exact absurd e h2
  · rw [if_pos h1] at e; exact absurd e h1
theorem v213_is {i j : Nat} (oi : FOK (frA B h i)) (oj : FOK (frA B h j)) (i0 : (frA B h i).2.2.2 = 0) (j0 : (frA B h j).2.2.2 = 0) : v213 B h (i : Int) (j : Int) = ordF (frA B h i) (frA B h j) := by
  obtain ⟨xa, xb, xk, xg⟩ := oi.b i0
  obtain ⟨ya, yb, yk, yg⟩ := oj.b j0
  have m1 := mulB xa (show -1000000000 ≤ (frA B h j).2.1 ∧ (frA B h j).2.1 ≤ 1000000000 by omega)
  have m2 := mulB ya (show -1000000000 ≤ (frA B h i).2.1 ∧ (frA B h i).2.1 ≤ 1000000000 by omega)
  unfold v213
  rw [tn, tn]
  show v881 (bop64 105 (frA B h i).1 (frA B h j).2.1) (bop64 105 (frA B h j).1 (frA B h i).2.1) = _
  rw [mul64 (by omega) (by omega), mul64 (by omega) (by omega), cmpL]; rfl
theorem c_three (l : LX B n h) (hd : 15 ≤ d) (h8 : hv h (B + 7) 8 = ((k + 3 : Nat) : Int)) (hk : k < 197) (o1 : FOK (frA B h k)) (o2 : FOK (frA B h (k + 1))) (o3 : FOK (frA B h (k + 2))) : Vd (cll PP (ev PP (gsF gv) B) d 217 [(2, rf (B + 7))] h) (fun h' => PutR B k h (fThree (frA B h k) (frA B h (k + 1)) (frA B h (k + 2))) h') := by
  refine Vd.into (D := 14) hd (Nat.le_of_ble_eq_true rfl) rfl (fun d hd => ?_)
  refine Ends.eq (b217_0 (n := n) (by (repeat' first | assumption | refine LX.setF _ _ ?_ (by decide +kernel) | refine LX.setS ?_ rfl | refine LX.setA ?_ (by first | assumption | omega))) (by first | assumption | omega)) ?_
  refine Ends.ct l (by decide +kernel) (by decide) (c_bad3 l (by omega) h8 hk) (fun v q1 l1 _ _ _ R => ?_)
  refine Ends.eq (b217_6 (n := n) (by (repeat' first | assumption | refine LX.setF _ _ ?_ (by decide +kernel) | refine LX.setS ?_ rfl | refine LX.setA ?_ (by first | assumption | omega))) (by first | assumption | omega)) ?_
  rcases R with ⟨f0, rfl, rfl⟩ | ⟨f0, rfl, g1, g2, g3⟩
  case inr =>
    refine Ends.b0 (fun z => absurd z (by decide)) (fun _ => Ends.sm ⟨_, rfl, g1, g2, ?_⟩)
    unfold fThree
    rw [if_pos f0]; exact g3
  obtain ⟨x0, y0, z0⟩ := bd3_0 f0
  have l2 : LX B n (hset q1 (B + 7) 8 (k : Int)) := LX.setF 7 8 l (by decide +kernel)
  have a2 : Agr (plW B k) q1 (hset q1 (B + 7) 8 (k : Int)) := Agr.rf.set (Or.inl ⟨rfl, rfl⟩)
  have h82 : hv (hset q1 (B + 7) 8 (k : Int)) (B + 7) 8 = (k : Int) := hv_set_at ..
  have a3 : Agr (fun c z => c = B + 7 ∧ z = 8) q1 (hset q1 (B + 7) 8 (k : Int)) := Agr.rf.set ⟨rfl, rfl⟩
  have fr : ∀ i, frA B (hset q1 (B + 7) 8 (k : Int)) i = frA B q1 i := fun i => frA_agr a3 (fun c h1 h2 z => by omega)
  have eT : fThree (frA B q1 k) (frA B q1 (k + 1)) (frA B q1 (k + 2)) = _ := if_neg (fun w => w f0)
  rw [eT, h8, b100_3 (by omega), b96_1 (by omega), b96_2 (by omega)]
  refine Ends.b0 (fun _ => ?_) (fun z => absurd rfl z)
  have okk : ∀ i, i = k ∨ i = k + 1 ∨ i = k + 2 → FOK (frA B (hset q1 (B + 7) 8 (k : Int)) i) ∧ (frA B (hset q1 (B + 7) 8 (k : Int)) i).2.2.2 = 0 := fun i hi => by
    rw [fr]
    rcases hi with rfl | rfl | rfl
    · exact ⟨o1, x0⟩
    · exact ⟨o2, y0⟩
    · exact ⟨o3, z0⟩
  have vv : ∀ i j, i = k ∨ i = k + 1 ∨ i = k + 2 → j = k ∨ j = k + 1 ∨ j = k + 2 → v213 B (hset q1 (B + 7) 8 (k : Int)) (i : Int) (j : Int) = ordF (frA B q1 i) (frA B q1 j) := fun i j hi hj => by
    rw [v213_is (okk i hi).1 (okk j hj).1 (okk i hi).2 (okk j hj).2, fr, fr]
  have fin : ∀ (w : Nat) (F : Fq) (x1 x2 x3 x4 x5 : Int), w = k ∨ w = k + 1 ∨ w = k + 2 → F = k0 (frA B q1 w) → Ends (aft PP 217 100 103 [(2, rf (B + 7)), (0, x1), (0, x2), (0, x3), (0, x4), (0, x5)] [] (ev PP (gsF gv) B d 217) (cll PP (ev PP (gsF gv) B) d 204 [(2, rf (B + 7)), (0, (w : Int))] (hset q1 (B + 7) 8 (k : Int)))) (fun r => ∃ h', r = ((0, (9, 0)), h') ∧ PutR B k q1 F h') := by
    intro w F x1 x2 x3 x4 x5 hw eF
    refine Ends.cv l2 (by decide +kernel) (c_keep (k := k) (w := w) l2 (by omega) h82 (by omega) (by omega)) (fun q2 l3 _ _ _ P => ?_)
    refine Ends.eq (b217_103 (n := n) (by (repeat' first | assumption | refine LX.setF _ _ ?_ (by decide +kernel) | refine LX.setS ?_ rfl | refine LX.setA ?_ (by first | assumption | omega))) (by first | assumption | omega)) ?_
    refine Ends.sm ⟨_, rfl, a2.tr P.1 (fun _ _ z => z), P.2.1, ?_⟩
    rw [P.2.2, fr, eF]; rfl
  rw [vv k (k + 1) (by omega) (by omega), tst4]
  refine Ends.g ⟨⟨by omega, by omega⟩, ⟨by omega, by omega⟩⟩ ?_
  by_cases c1 : 0 < ordF (frA B q1 k) (frA B q1 (k + 1))
  · rw [decide_eq_true c1, if_pos c1, cond_true, tst1, decide_eq_false (show ¬ ((k + 1 : Nat) : Int) = (k : Int) by omega)]
    rw [vv (k + 2) (k + 1) (by omega) (by omega), tst4, show cond (!false) (k : Int) ((k + 1 : Nat) : Int) = (k : Int) from rfl, vv (k + 2) k (by omega) (by omega), tst2]
    refine Ends.g ⟨⟨by omega, by omega⟩, ⟨by omega, by omega⟩⟩ ?_
    by_cases c2 : 0 < ordF (frA B q1 (k + 2)) (frA B q1 (k + 1))
    · rw [decide_eq_true c2, if_pos c2, cond_true]
      refine Ends.g ⟨⟨by omega, by omega⟩, ⟨by omega, by omega⟩⟩ ?_
      rw [cond_true]
      by_cases c3 : ordF (frA B q1 (k + 2)) (frA B q1 k) < 0
      · rw [decide_eq_true c3, if_pos c3, cond_true]
        exact fin _ _ _ _ _ _ _ (by omega) rfl
      · rw [decide_eq_false c3, if_neg c3, cond_false]
        exact fin _ _ _ _ _ _ _ (by omega) rfl
    · rw [decide_eq_false c2, if_neg c2, cond_false]
      refine Ends.g trivial ?_
      rw [cond_false]
      exact fin _ _ _ _ _ _ _ (by omega) rfl
  · rw [decide_eq_false c1, if_neg c1, cond_false, tst1, decide_eq_true (show (k : Int) = (k : Int) from rfl)]
    rw [vv (k + 2) k (by omega) (by omega), tst4, show cond (!true) (k : Int) ((k + 1 : Nat) : Int) = ((k + 1 : Nat) : Int) from rfl, vv (k + 2) (k + 1) (by omega) (by omega), tst2]
    refine Ends.g ⟨⟨by omega, by omega⟩, ⟨by omega, by omega⟩⟩ ?_
    by_cases c2 : 0 < ordF (frA B q1 (k + 2)) (frA B q1 k)
    · rw [decide_eq_true c2, if_pos c2, cond_true]
      refine Ends.g ⟨⟨by omega, by omega⟩, ⟨by omega, by omega⟩⟩ ?_
      rw [cond_true]
      by_cases c3 : ordF (frA B q1 (k + 2)) (frA B q1 (k + 1)) < 0
      · rw [decide_eq_true c3, if_pos c3, cond_true]
        exact fin _ _ _ _ _ _ _ (by omega) rfl
      · rw [decide_eq_false c3, if_neg c3, cond_false]
        exact fin _ _ _ _ _ _ _ (by omega) rfl
    · rw [decide_eq_false c2, if_neg c2, cond_false]
      refine Ends.g trivial ?_
      rw [cond_false]
      exact fin _ _ _ _ _ _ _ (by omega) rfl
def fAlone (f : Nat) (x : Fq) : Fq :=
  if x.2.2.2 ≠ 0 then flt x.2.2.2
  else if f = 5 then ((x.1.natAbs : Int), x.2.1, x.2.2.1, 0)
  else if f = 6 then mkF (x.1 / x.2.1) 1 x.2.2.1
  else if f = 7 then mkF (-((-x.1) / x.2.1)) 1 x.2.2.1
  else if f = 8 then mkF ((2 * x.1 + x.2.1) / (2 * x.2.1)) 1 x.2.2.1
  else if f = 9 then mkF (if x.1 < 0 then -1 else if x.1 = 0 then 0 else 1) 1 0
  else fTim x.1 x.2.1 x.1 x.2.1 (2 * x.2.2.1)
theorem c_alone (l : LX B n h) (hd : 15 ≤ d) (h8 : hv h (B + 7) 8 = ((k + 1 : Nat) : Int)) (hk : k < 199) (o1 : FOK (frA B h k)) {f : Nat} (hf : 5 ≤ f) (hf2 : f ≤ 10) : Vd (cll PP (ev PP (gsF gv) B) d 183 [(2, rf (B + 7)), (0, (f : Int))] h) (fun h' => PutR B k h (fAlone f (frA B h k)) h') := by
  refine Vd.into (D := 14) hd (Nat.le_of_ble_eq_true rfl) rfl (fun d hd => ?_)
  refine Ends.eq (b183_0 (n := n) (by (repeat' first | assumption | refine LX.setF _ _ ?_ (by decide +kernel) | refine LX.setS ?_ rfl | refine LX.setA ?_ (by first | assumption | omega))) (by first | assumption | omega)) ?_
  refine Ends.ct l (by decide +kernel) (by decide) (c_bad1 l (by omega) h8 hk) (fun v q1 l1 _ _ _ R => ?_)
  refine Ends.eq (b183_6 (n := n) (by (repeat' first | assumption | refine LX.setF _ _ ?_ (by decide +kernel) | refine LX.setS ?_ rfl | refine LX.setA ?_ (by first | assumption | omega))) (by first | assumption | omega)) ?_
  rcases R with ⟨f0, rfl, rfl⟩ | ⟨f0, rfl, g1, g2, g3⟩
  case inr =>
    refine Ends.b0 (fun z => absurd z (by decide)) (fun _ => Ends.sm ⟨_, rfl, g1, g2, ?_⟩)
    unfold fAlone
    rw [if_pos f0]; exact g3
  obtain ⟨xa, xb, xk, xg⟩ := o1.b f0
  have l2 : LX B n (hset q1 (B + 7) 8 (k : Int)) := LX.setF 7 8 l (by decide +kernel)
  have a2 : Agr (plW B k) q1 (hset q1 (B + 7) 8 (k : Int)) := Agr.rf.set (Or.inl ⟨rfl, rfl⟩)
  have h82 : hv (hset q1 (B + 7) 8 (k : Int)) (B + 7) 8 = (k : Int) := hv_set_at ..
  have eT : fAlone f (frA B q1 k) = _ := if_neg (fun w => w f0)
  rw [eT, h8, b100_1' (by omega), tn]
  refine Ends.b0 (fun _ => Ends.g ⟨by omega, by omega⟩ ?_) (fun z => absurd rfl z)
  have e1 : hv q1 (B + 11) k = (frA B q1 k).1 := rfl
  have e2 : hv q1 (B + 12) k = (frA B q1 k).2.1 := rfl
  have e3 : hv q1 (B + 13) k = (frA B q1 k).2.2.1 := rfl
  rw [e1, e2, e3]
  generalize frA B q1 k = X at *
  obtain ⟨x1, x2, x3, x4⟩ := X
  dsimp only at *
  have fin : ∀ (q2 : AH) (F : Fq) (y1 y2 y3 : Int) (u3 u5 : AV), LX B n q2 → PutR B k (hset q1 (B + 7) 8 (k : Int)) F q2 → Ends (ev PP (gsF gv) B d 183 193 [(2, rf (B + 7)), (0, (f : Int)), (1, y1), u3, (1, y2), u5, (0, y3)] [] q2) (fun r => ∃ h', r = ((0, (9, 0)), h') ∧ PutR B k q1 F h') := by
    intro q2 F y1 y2 y3 u3 u5 lq P
    refine Ends.eq (b183_193 (n := n) (by (repeat' first | assumption | refine LX.setF _ _ ?_ (by decide +kernel) | refine LX.setS ?_ rfl | refine LX.setA ?_ (by first | assumption | omega))) (by first | assumption | omega)) ?_
    exact Ends.sm ⟨_, rfl, a2.tr P.1 (fun _ _ z => z), P.2.1, P.2.2⟩
  unfold sw183_53
  by_cases c5 : f = 5
  · rw [if_pos (by omega), if_pos c5]
    refine Ends.eq (b183_88 (n := n) (by (repeat' first | assumption | refine LX.setF _ _ ?_ (by decide +kernel) | refine LX.setS ?_ rfl | refine LX.setA ?_ (by first | assumption | omega))) (by first | assumption | omega)) ?_
    rw [abs64 (by omega) (by omega)]
    refine Ends.cv l2 (by decide +kernel) (c_push (k := k) l2 (by omega) h82 (by omega)) (fun q2 l3 _ _ _ P => ?_)
    refine Ends.eq (b183_101 (n := n) (by (repeat' first | assumption | refine LX.setF _ _ ?_ (by decide +kernel) | refine LX.setS ?_ rfl | refine LX.setA ?_ (by first | assumption | omega))) (by first | assumption | omega)) ?_
    exact fin _ _ _ _ _ _ _ l3 P
  rw [if_neg (show ¬ ((f : Nat) : Int) = 5 by omega), if_neg c5]
  by_cases c6 : f = 6
  · rw [if_pos (by omega), if_pos c6]
    refine Ends.eq (b183_104 (n := n) (by (repeat' first | assumption | refine LX.setF _ _ ?_ (by decide +kernel) | refine LX.setS ?_ rfl | refine LX.setA ?_ (by first | assumption | omega))) (by first | assumption | omega)) ?_
    have bd := ldiv_b (x := x1) (y := x2) (by omega) (by omega) (by omega)
    rw [fdivL (by omega) (by omega) (by omega) (by omega)]
    refine Ends.g (show x2 ≠ 0 by omega) ?_
    refine Ends.cv l2 (by decide +kernel) (c_lay (k := k) l2 (by omega) h82 (by omega) bd (by omega) (by decide)) (fun q2 l3 _ _ _ P => ?_)
    refine Ends.eq (b183_117 (n := n) (by (repeat' first | assumption | refine LX.setF _ _ ?_ (by decide +kernel) | refine LX.setS ?_ rfl | refine LX.setA ?_ (by first | assumption | omega))) (by first | assumption | omega)) ?_
    exact fin _ _ _ _ _ _ _ l3 P
  rw [if_neg (show ¬ ((f : Nat) : Int) = 6 by omega), if_neg c6]
  by_cases c7 : f = 7
  · rw [if_pos (by omega), if_pos c7]
    refine Ends.eq (b183_120 (n := n) (by (repeat' first | assumption | refine LX.setF _ _ ?_ (by decide +kernel) | refine LX.setS ?_ rfl | refine LX.setA ?_ (by first | assumption | omega))) (by first | assumption | omega)) ?_
    have bd := ldiv_b (x := -x1) (y := x2) (by omega) (by omega) (by omega)
    rw [neg64 (x := x1) (by omega) (by omega), fdivL (by omega) (by omega) (by omega) (by omega), neg64 (by omega) (by omega)]
    refine Ends.g (show x2 ≠ 0 by omega) ?_
    refine Ends.cv l2 (by decide +kernel) (c_lay (k := k) l2 (by omega) h82 (by omega) (by omega) (by omega) (by decide)) (fun q2 l3 _ _ _ P => ?_)
    refine Ends.eq (b183_135 (n := n) (by (repeat' first | assumption | refine LX.setF _ _ ?_ (by decide +kernel) | refine LX.setS ?_ rfl | refine LX.setA ?_ (by first | assumption | omega))) (by first | assumption | omega)) ?_
    exact fin _ _ _ _ _ _ _ l3 P
  rw [if_neg (show ¬ ((f : Nat) : Int) = 7 by omega), if_neg c7]
  by_cases c8 : f = 8
  · rw [if_pos (by omega), if_pos c8]
    refine Ends.eq (b183_138 (n := n) (by (repeat' first | assumption | refine LX.setF _ _ ?_ (by decide +kernel) | refine LX.setS ?_ rfl | refine LX.setA ?_ (by first | assumption | omega))) (by first | assumption | omega)) ?_
    have bd := ldiv_b (x := 2 * x1 + x2) (y := 2 * x2) (by omega) (by omega) (by omega)
    rw [mul64 (by omega) (by omega), mul64 (by omega) (by omega), add64 (by omega) (by omega), fdivL (by omega) (by omega) (by omega) (by omega)]
    refine Ends.g (show 2 * x2 ≠ 0 by omega) ?_
    refine Ends.cv l2 (by decide +kernel) (c_lay (k := k) l2 (by omega) h82 (by omega) bd (by omega) (by decide)) (fun q2 l3 _ _ _ P => ?_)
    refine Ends.eq (b183_162 (n := n) (by (repeat' first | assumption | refine LX.setF _ _ ?_ (by decide +kernel) | refine LX.setS ?_ rfl | refine LX.setA ?_ (by first | assumption | omega))) (by first | assumption | omega)) ?_
    exact fin _ _ _ _ _ _ _ l3 P
  rw [if_neg (show ¬ ((f : Nat) : Int) = 8 by omega), if_neg c8]
  by_cases c9 : f = 9
  · rw [if_pos (by omega), if_pos c9]
    refine Ends.eq (b183_165 (n := n) (by (repeat' first | assumption | refine LX.setF _ _ ?_ (by decide +kernel) | refine LX.setS ?_ rfl | refine LX.setA ?_ (by first | assumption | omega))) (by first | assumption | omega)) ?_
    rw [sgnL ⟨by omega, by omega⟩ (by omega), show ∀ z, uop 2 z = z from fun _ => rfl]
    refine Ends.cv l2 (by decide +kernel) (c_lay (k := k) l2 (by omega) h82 (by omega) (by split <;> (try split) <;> omega) (by omega) (by decide)) (fun q2 l3 _ _ _ P => ?_)
    refine Ends.eq (b183_176 (n := n) (by (repeat' first | assumption | refine LX.setF _ _ ?_ (by decide +kernel) | refine LX.setS ?_ rfl | refine LX.setA ?_ (by first | assumption | omega))) (by first | assumption | omega)) ?_
    exact fin _ _ _ _ _ _ _ l3 P
  rw [if_neg (show ¬ ((f : Nat) : Int) = 9 by omega), if_neg c9]
  refine Ends.eq (b183_179 (n := n) (by (repeat' first | assumption | refine LX.setF _ _ ?_ (by decide +kernel) | refine LX.setS ?_ rfl | refine LX.setA ?_ (by first | assumption | omega))) (by first | assumption | omega)) ?_
  rw [mul32 (by omega) (by omega)]
  refine Ends.cv l2 (by decide +kernel) (c_times (k := k) l2 (by omega) h82 (by omega) xa xb xa xb) (fun q2 l3 _ _ _ P => ?_)
  exact fin _ _ _ _ _ _ _ l3 P
end OPS2
