/-! L3: Formulas: two, holds, pair, rest, three, alone -/
theorem FOK.b {q : Fq} (ok : FOK q) (f0 : q.2.2.2 = 0) : (-1000000000 ≤ q.1 ∧ q.1 ≤ 1000000000) ∧ (1 ≤ q.2.1 ∧ q.2.1 ≤ 1000000000) ∧ (-4 ≤ q.2.2.1 ∧ q.2.2.1 ≤ 4) ∧ Int.gcd q.1 q.2.1 = 1 := by
  rcases ok with ⟨_, h1, h2, h3, h4, h5, h6, h7⟩ | ⟨f, e, h1, h2⟩
  · exact ⟨⟨h1, h2⟩, ⟨h3, h4⟩, ⟨h5, h6⟩, h7⟩
  · rw [e] at f0
    have : f = 0 := f0
    omega
def hold (op c : Int) : Bool := if op = 60 then decide (c < 0) else if op = 62 then decide (0 < c) else if op = 8509 then decide (c ≠ 0) else if op = 15421 then decide (c ≤ 0) else if op = 15677 then decide (c = 0) else decide (0 ≤ c)
def cmpZ (x y : Int) : Int := if x < y then -1 else if x = y then 0 else 1
def alk (op : Int) : Bool := !(decide (op = 42) || decide (op = 47) || decide (op = 31868) || decide (op = 9766))
def fTwo (op : Int) (x y : Fq) : Fq :=
  if bd2 (alk op) x y ≠ 0 then flt (bd2 (alk op) x y)
  else if op = 42 then fTim x.1 x.2.1 y.1 y.2.1 (x.2.2.1 + y.2.2.1)
  else if op = 43 then mkF (x.1 * y.2.1 + y.1 * x.2.1) (x.2.1 * y.2.1) x.2.2.1
  else if op = 45 then mkF (x.1 * y.2.1 - y.1 * x.2.1) (x.2.1 * y.2.1) x.2.2.1
  else if op = 47 then (if x.2.2.1 - y.2.2.1 < -4 ∨ 4 < x.2.2.1 - y.2.2.1 then flt 1 else if y.1 = 0 then flt 2 else mkF (x.1 * y.2.1) (x.2.1 * y.1) (x.2.2.1 - y.2.2.1))
  else if op = 9766 ∨ op = 31868 then (if x.2.2.1 ≠ 0 ∨ y.2.2.1 ≠ 0 then flt 1 else mkF (b2i (if op = 31868 then decide (x.1 ≠ 0) || decide (y.1 ≠ 0) else decide (x.1 ≠ 0) && decide (y.1 ≠ 0))) 1 0)
  else mkF (b2i (hold op (cmpZ (x.1 * y.2.1) (y.1 * x.2.1)))) 1 0
theorem bd2_0 {al : Bool} {x y : Fq} (e : bd2 al x y = 0) : x.2.2.2 = 0 ∧ y.2.2.2 = 0 ∧ (al = true → y.2.2.1 = x.2.2.1) := by
  unfold bd2 at e
  by_cases h1 : x.2.2.2 = 0
  · by_cases h2 : y.2.2.2 = 0
    · refine ⟨h1, h2, fun ha => ?_⟩
      rw [if_neg (fun w => w h1), if_neg (fun w => w h2), ha] at e
      by_cases h3 : y.2.2.1 = x.2.2.1
      · exact h3
      · rw [decide_eq_true h3] at e; exact absurd e (by decide)
    · rw [if_neg (fun w => w h1), if_pos h2] at e; exact absurd e h2
  · rw [if_pos h1] at e; exact absurd e h1
section OPS
variable {gv : Nat → Int} {B n d k : Nat} {h : AH}
theorem c_holds (l : LX B n h) (hd : 10 ≤ d) {op c : Int} : Vt 0 (cll PP (ev PP (gsF gv) B) d 202 [(0, op), (0, c)] h) (fun v h' => v = b2i (hold op c) ∧ h' = h) := by
  refine Vt.into (D := 9) hd (Nat.le_of_ble_eq_true rfl) rfl (fun d hd => ?_)
  refine Ends.eq (b202_0 (n := n) (by (repeat' first | assumption | refine LX.setF _ _ ?_ (by decide +kernel) | refine LX.setS ?_ rfl | refine LX.setA ?_ (by first | assumption | omega))) (by first | assumption | omega)) ?_
  unfold sw202_1
  unfold hold
  by_cases e1 : op = 60
  · rw [if_pos e1, if_pos e1]
    refine Ends.eq (b202_72 (n := n) (by (repeat' first | assumption | refine LX.setF _ _ ?_ (by decide +kernel) | refine LX.setS ?_ rfl | refine LX.setA ?_ (by first | assumption | omega))) (by first | assumption | omega)) ?_
    refine Ends.sm ⟨_, _, rfl, ?_, rfl⟩
    rw [tst3]; by_cases q : c < 0 <;> simp [q, b2i]
  rw [if_neg e1, if_neg e1]
  by_cases e2 : op = 62
  · rw [if_pos e2, if_pos e2]
    refine Ends.eq (b202_82 (n := n) (by (repeat' first | assumption | refine LX.setF _ _ ?_ (by decide +kernel) | refine LX.setS ?_ rfl | refine LX.setA ?_ (by first | assumption | omega))) (by first | assumption | omega)) ?_
    refine Ends.sm ⟨_, _, rfl, ?_, rfl⟩
    rw [tst5]; by_cases q : 0 < c <;> simp [q, b2i]
  rw [if_neg e2, if_neg e2]
  by_cases e3 : op = 8509
  · rw [if_pos e3, if_pos e3]
    refine Ends.eq (b202_62 (n := n) (by (repeat' first | assumption | refine LX.setF _ _ ?_ (by decide +kernel) | refine LX.setS ?_ rfl | refine LX.setA ?_ (by first | assumption | omega))) (by first | assumption | omega)) ?_
    refine Ends.sm ⟨_, _, rfl, ?_, rfl⟩
    rw [tst0]; by_cases q : c = 0 <;> simp [q, b2i]
  rw [if_neg e3, if_neg e3]
  by_cases e4 : op = 15421
  · rw [if_pos e4, if_pos e4]
    refine Ends.eq (b202_92 (n := n) (by (repeat' first | assumption | refine LX.setF _ _ ?_ (by decide +kernel) | refine LX.setS ?_ rfl | refine LX.setA ?_ (by first | assumption | omega))) (by first | assumption | omega)) ?_
    refine Ends.sm ⟨_, _, rfl, ?_, rfl⟩
    rw [tst4]; by_cases q : 0 < c
    · rw [decide_eq_true q, decide_eq_false (show ¬ c ≤ 0 by omega)]; rfl
    · rw [decide_eq_false q, decide_eq_true (show c ≤ 0 by omega)]; rfl
  rw [if_neg e4, if_neg e4]
  by_cases e5 : op = 15677
  · rw [if_pos e5, if_pos e5]
    refine Ends.eq (b202_52 (n := n) (by (repeat' first | assumption | refine LX.setF _ _ ?_ (by decide +kernel) | refine LX.setS ?_ rfl | refine LX.setA ?_ (by first | assumption | omega))) (by first | assumption | omega)) ?_
    refine Ends.sm ⟨_, _, rfl, ?_, rfl⟩
    rw [tst1]; by_cases q : c = 0 <;> simp [q, b2i]
  rw [if_neg e5, if_neg e5]
  refine Ends.eq (b202_102 (n := n) (by (repeat' first | assumption | refine LX.setF _ _ ?_ (by decide +kernel) | refine LX.setS ?_ rfl | refine LX.setA ?_ (by first | assumption | omega))) (by first | assumption | omega)) ?_
  refine Ends.sm ⟨_, _, rfl, ?_, rfl⟩
  rw [tst2]; by_cases q : c < 0
  · rw [decide_eq_true q, decide_eq_false (show ¬ 0 ≤ c by omega)]; rfl
  · rw [decide_eq_false q, decide_eq_true (show 0 ≤ c by omega)]; rfl
theorem b2i_r (b : Bool) : 0 ≤ b2i b ∧ b2i b ≤ 1 := by cases b <;> decide
theorem al_is (op : Int) : cond (tst 0 op 42) (0 : Int) (cond (tst 0 op 47) 0 (cond (tst 1 (cond (tst 0 op 31868) (1 : Int) (cond (tst 1 op 9766) 0 1)) 0) 0 1)) = if alk op then 1 else 0 := by
  unfold alk
  simp only [tst0, tst1]
  by_cases e1 : op = 42
  · simp [e1]
  by_cases e2 : op = 47
  · simp [e2]
  by_cases e3 : op = 31868
  · simp [e3]
  by_cases e4 : op = 9766
  · simp [e4]
  simp [e1, e2, e3, e4]
theorem c_two (l : LX B n h) (hd : 15 ≤ d) (h8 : hv h (B + 7) 8 = ((k + 2 : Nat) : Int)) (hk : k < 198) (o1 : FOK (frA B h k)) (o2 : FOK (frA B h (k + 1))) {op : Int} : Vd (cll PP (ev PP (gsF gv) B) d 219 [(2, rf (B + 7)), (0, op)] h) (fun h' => PutR B k h (fTwo op (frA B h k) (frA B h (k + 1))) h') := by
  refine Vd.into (D := 14) hd (Nat.le_of_ble_eq_true rfl) rfl (fun d hd => ?_)
  refine Ends.eq (b219_0 (n := n) (by (repeat' first | assumption | refine LX.setF _ _ ?_ (by decide +kernel) | refine LX.setS ?_ rfl | refine LX.setA ?_ (by first | assumption | omega))) (by first | assumption | omega)) ?_
  rw [al_is]
  refine Ends.ct l (by decide +kernel) (by decide) (c_bad2 (al := alk op) l (by omega) h8 hk rfl) (fun v q1 l1 _ _ _ R => ?_)
  refine Ends.eq (b219_46 (n := n) (by (repeat' first | assumption | refine LX.setF _ _ ?_ (by decide +kernel) | refine LX.setS ?_ rfl | refine LX.setA ?_ (by first | assumption | omega))) (by first | assumption | omega)) ?_
  rcases R with ⟨f0, rfl, rfl⟩ | ⟨f0, rfl, g1, g2, g3⟩
  case inr =>
    refine Ends.b0 (fun z => absurd z (by decide)) (fun _ => Ends.sm ⟨_, rfl, g1, g2, ?_⟩)
    unfold fTwo
    rw [if_pos f0]; exact g3
  obtain ⟨x0, y0, al0⟩ := bd2_0 f0
  obtain ⟨xa, xb, xk, xg⟩ := o1.b x0
  obtain ⟨ya, yb, yk, yg⟩ := o2.b y0
  have l2 : LX B n (hset q1 (B + 7) 8 (k : Int)) := LX.setF 7 8 l (by decide +kernel)
  have a2 : Agr (plW B k) q1 (hset q1 (B + 7) 8 (k : Int)) := Agr.rf.set (Or.inl ⟨rfl, rfl⟩)
  have h82 : hv (hset q1 (B + 7) 8 (k : Int)) (B + 7) 8 = (k : Int) := hv_set_at ..
  have k13 : hv (hset q1 (B + 7) 8 (k : Int)) (B + 13) (k + 1) = (frA B q1 (k + 1)).2.2.1 := hv_na (by omega)
  rw [h8, b100_2 (by omega), b96_1 (by omega), tn, tn]
  refine Ends.b0 (fun _ => Ends.g ⟨by omega, by omega⟩ (Ends.g ⟨by omega, by omega⟩ ?_)) (fun z => absurd rfl z)
  have eT : fTwo op (frA B q1 k) (frA B q1 (k + 1)) = _ := if_neg (fun w => w f0)
  rw [eT]
  have e1 : hv q1 (B + 11) k = (frA B q1 k).1 := rfl
  have e2 : hv q1 (B + 12) k = (frA B q1 k).2.1 := rfl
  have e3 : hv q1 (B + 13) k = (frA B q1 k).2.2.1 := rfl
  have e4 : hv q1 (B + 11) (k + 1) = (frA B q1 (k + 1)).1 := rfl
  have e5 : hv q1 (B + 12) (k + 1) = (frA B q1 (k + 1)).2.1 := rfl
  rw [e1, e2, e3, e4, e5]
  generalize frA B q1 k = X at *
  generalize frA B q1 (k + 1) = Y at *
  obtain ⟨x1, x2, x3, x4⟩ := X
  obtain ⟨y1, y2, y3, y4⟩ := Y
  dsimp only at *
  have m1 := mulB xa (show -1000000000 ≤ y2 ∧ y2 ≤ 1000000000 by omega)
  have m2 := mulB ya (show -1000000000 ≤ x2 ∧ x2 ≤ 1000000000 by omega)
  have m3 := mulB (show -1000000000 ≤ x2 ∧ x2 ≤ 1000000000 by omega) (show -1000000000 ≤ y2 ∧ y2 ≤ 1000000000 by omega)
  have m4 : 1 * 1 ≤ x2 * y2 := Int.mul_le_mul xb.1 yb.1 (by decide) (by omega)
  have m5 := mulB (show -1000000000 ≤ x2 ∧ x2 ≤ 1000000000 by omega) ya
  have fin : ∀ (q2 : AH) (F : Fq) (L13 : Int) (x5 x7 x9 x11 xx2 : Int) (u6 u8 u10 u12 : AV), LX B n q2 → PutR B k (hset q1 (B + 7) 8 (k : Int)) F q2 → Ends (ev PP (gsF gv) B d 219 441 [(2, rf (B + 7)), (0, op), (0, xx2), (0, (k : Int)), (0, ((k + 1 : Nat) : Int)), (1, x5), u6, (1, x7), u8, (1, x9), u10, (1, x11), u12, (0, L13)] [] q2) (fun r => ∃ h', r = ((0, (9, 0)), h') ∧ PutR B k q1 F h') := by
    intro q2 F L13 x5 x7 x9 x11 xx2 u6 u8 u10 u12 lq P
    refine Ends.eq (b219_441 (n := n) (by (repeat' first | assumption | refine LX.setF _ _ ?_ (by decide +kernel) | refine LX.setS ?_ rfl | refine LX.setA ?_ (by first | assumption | omega))) (by first | assumption | omega)) ?_
    exact Ends.sm ⟨_, rfl, a2.tr P.1 (fun _ _ z => z), P.2.1, P.2.2⟩
  unfold sw219_116
  by_cases c1 : op = 42
  · rw [if_pos c1, if_pos c1]
    refine Ends.eq (b219_306 (n := n) (by (repeat' first | assumption | refine LX.setF _ _ ?_ (by decide +kernel) | refine LX.setS ?_ rfl | refine LX.setA ?_ (by first | assumption | omega))) (by first | assumption | omega)) ?_
    rw [tn, k13]
    refine Ends.g ⟨by omega, by omega⟩ ?_
    rw [add32 (by omega) (by omega)]
    refine Ends.cv l2 (by decide +kernel) (c_times (k := k) l2 (by omega) h82 (by omega) xa xb ya yb) (fun q2 l3 _ _ _ P => ?_)
    refine Ends.eq (b219_328 (n := n) (by (repeat' first | assumption | refine LX.setF _ _ ?_ (by decide +kernel) | refine LX.setS ?_ rfl | refine LX.setA ?_ (by first | assumption | omega))) (by first | assumption | omega)) ?_
    exact fin _ _ _ _ _ _ _ _ _ _ _ _ l3 P
  rw [if_neg c1, if_neg c1]
  by_cases c2 : op = 43
  · rw [if_pos c2, if_pos c2]
    refine Ends.eq (b219_256 (n := n) (by (repeat' first | assumption | refine LX.setF _ _ ?_ (by decide +kernel) | refine LX.setS ?_ rfl | refine LX.setA ?_ (by first | assumption | omega))) (by first | assumption | omega)) ?_
    rw [mul64 (by omega) (by omega), mul64 (by omega) (by omega), mul64 (by omega) (by omega), add64 (by omega) (by omega)]
    refine Ends.cv l2 (by decide +kernel) (c_lay (k := k) l2 (by omega) h82 (by omega) (by omega) (by omega) (by omega)) (fun q2 l3 _ _ _ P => ?_)
    refine Ends.eq (b219_278 (n := n) (by (repeat' first | assumption | refine LX.setF _ _ ?_ (by decide +kernel) | refine LX.setS ?_ rfl | refine LX.setA ?_ (by first | assumption | omega))) (by first | assumption | omega)) ?_
    exact fin _ _ _ _ _ _ _ _ _ _ _ _ l3 P
  rw [if_neg c2, if_neg c2]
  by_cases c3 : op = 45
  · rw [if_pos c3, if_pos c3]
    refine Ends.eq (b219_281 (n := n) (by (repeat' first | assumption | refine LX.setF _ _ ?_ (by decide +kernel) | refine LX.setS ?_ rfl | refine LX.setA ?_ (by first | assumption | omega))) (by first | assumption | omega)) ?_
    rw [mul64 (by omega) (by omega), mul64 (by omega) (by omega), mul64 (by omega) (by omega), sub64 (by omega) (by omega)]
    refine Ends.cv l2 (by decide +kernel) (c_lay (k := k) l2 (by omega) h82 (by omega) (by omega) (by omega) (by omega)) (fun q2 l3 _ _ _ P => ?_)
    refine Ends.eq (b219_303 (n := n) (by (repeat' first | assumption | refine LX.setF _ _ ?_ (by decide +kernel) | refine LX.setS ?_ rfl | refine LX.setA ?_ (by first | assumption | omega))) (by first | assumption | omega)) ?_
    exact fin _ _ _ _ _ _ _ _ _ _ _ _ l3 P
  rw [if_neg c3, if_neg c3]
  by_cases c4 : op = 47
  · rw [if_pos c4, if_pos c4]
    refine Ends.eq (b219_331 (n := n) (by (repeat' first | assumption | refine LX.setF _ _ ?_ (by decide +kernel) | refine LX.setS ?_ rfl | refine LX.setA ?_ (by first | assumption | omega))) (by first | assumption | omega)) ?_
    rw [tn, k13]
    refine Ends.g ⟨by omega, by omega⟩ ?_
    rw [sub32 (by omega) (by omega)]
    have bad : x3 - y3 < -4 ∨ 4 < x3 - y3 → ∀ (xx2 : Int) (u6 u8 u10 u12 : AV), Ends (ev PP (gsF gv) B d 219 360 [(2, rf (B + 7)), (0, op), (0, xx2), (0, (k : Int)), (0, ((k + 1 : Nat) : Int)), (1, x1), u6, (1, x2), u8, (1, y1), u10, (1, y2), u12, (0, x3)] [] (hset q1 (B + 7) 8 (k : Int))) (fun r => ∃ h', r = ((0, (9, 0)), h') ∧ PutR B k q1 (if x3 - y3 < -4 ∨ 4 < x3 - y3 then flt 1 else if y1 = 0 then flt 2 else mkF (x1 * y2) (x2 * y1) (x3 - y3)) h') := by
      intro z xx2 u6 u8 u10 u12
      rw [if_pos z]
      refine Ends.eq (b219_360 (n := n) (by (repeat' first | assumption | refine LX.setF _ _ ?_ (by decide +kernel) | refine LX.setS ?_ rfl | refine LX.setA ?_ (by first | assumption | omega))) (by first | assumption | omega)) ?_
      refine Ends.cv l2 (by decide +kernel) (c_fail (k := k) l2 (by omega) h82 (by omega)) (fun q2 l3 _ _ _ P => ?_)
      refine Ends.eq (b219_365 (n := n) (by (repeat' first | assumption | refine LX.setF _ _ ?_ (by decide +kernel) | refine LX.setS ?_ rfl | refine LX.setA ?_ (by first | assumption | omega))) (by first | assumption | omega)) ?_
      exact fin _ _ _ _ _ _ _ _ _ _ _ _ l3 P
    refine Ends.b2 (fun z => bad (Or.inl z) _ _ _ _ _) (fun z1 => Ends.b5 (fun z2 => ?_) (fun z => bad (Or.inr z) _ _ _ _ _))
    rw [if_neg (by omega)]
    refine Ends.l1 (fun z => ?_) (fun z => ?_)
    · rw [if_neg z, mul64 (by omega) (by omega), mul64 (by omega) (by omega)]
      have nz : x2 * y1 ≠ 0 := Int.mul_ne_zero (by omega) z
      refine Ends.cv l2 (by decide +kernel) (c_lay (k := k) l2 (by omega) h82 (by omega) (by omega) (by omega) nz) (fun q2 l3 _ _ _ P => ?_)
      refine Ends.eq (b219_407 (n := n) (by (repeat' first | assumption | refine LX.setF _ _ ?_ (by decide +kernel) | refine LX.setS ?_ rfl | refine LX.setA ?_ (by first | assumption | omega))) (by first | assumption | omega)) ?_
      exact fin _ _ _ _ _ _ _ _ _ _ _ _ l3 P
    · rw [if_pos z]
      refine Ends.cv l2 (by decide +kernel) (c_fail (k := k) l2 (by omega) h82 (by omega)) (fun q2 l3 _ _ _ P => ?_)
      refine Ends.eq (b219_380 (n := n) (by (repeat' first | assumption | refine LX.setF _ _ ?_ (by decide +kernel) | refine LX.setS ?_ rfl | refine LX.setA ?_ (by first | assumption | omega))) (by first | assumption | omega)) ?_
      exact fin _ _ _ _ _ _ _ _ _ _ _ _ l3 P
  rw [if_neg c4, if_neg c4]
  by_cases c5 : op = 9766 ∨ op = 31868
  · have e176 : (if op = 9766 then 176 else if op = 31868 then 176 else 410) = 176 := by
      rcases c5 with c | c
      · rw [if_pos c]
      · rw [if_neg (by omega), if_pos c]
    rw [e176, if_pos c5]
    refine Ends.eq (b219_176 (n := n) (by (repeat' first | assumption | refine LX.setF _ _ ?_ (by decide +kernel) | refine LX.setS ?_ rfl | refine LX.setA ?_ (by first | assumption | omega))) (by first | assumption | omega)) ?_
    rw [tn, k13]
    have bad : x3 ≠ 0 ∨ y3 ≠ 0 → ∀ (xx2 : Int) (u6 u8 u10 u12 : AV), Ends (ev PP (gsF gv) B d 219 191 [(2, rf (B + 7)), (0, op), (0, xx2), (0, (k : Int)), (0, ((k + 1 : Nat) : Int)), (1, x1), u6, (1, x2), u8, (1, y1), u10, (1, y2), u12, (0, x3)] [] (hset q1 (B + 7) 8 (k : Int))) (fun r => ∃ h', r = ((0, (9, 0)), h') ∧ PutR B k q1 (if x3 ≠ 0 ∨ y3 ≠ 0 then flt 1 else mkF (b2i (if op = 31868 then decide (x1 ≠ 0) || decide (y1 ≠ 0) else decide (x1 ≠ 0) && decide (y1 ≠ 0))) 1 0) h') := by
      intro z xx2 u6 u8 u10 u12
      rw [if_pos z]
      refine Ends.eq (b219_191 (n := n) (by (repeat' first | assumption | refine LX.setF _ _ ?_ (by decide +kernel) | refine LX.setS ?_ rfl | refine LX.setA ?_ (by first | assumption | omega))) (by first | assumption | omega)) ?_
      refine Ends.cv l2 (by decide +kernel) (c_fail (k := k) l2 (by omega) h82 (by omega)) (fun q2 l3 _ _ _ P => ?_)
      refine Ends.eq (b219_196 (n := n) (by (repeat' first | assumption | refine LX.setF _ _ ?_ (by decide +kernel) | refine LX.setS ?_ rfl | refine LX.setA ?_ (by first | assumption | omega))) (by first | assumption | omega)) ?_
      exact fin _ _ _ _ _ _ _ _ _ _ _ _ l3 P
    refine Ends.b1 (fun z => bad (Or.inl z) _ _ _ _ _) (fun z1 => Ends.g ⟨by omega, by omega⟩ (Ends.b0 (fun z2 => ?_) (fun z => bad (Or.inr z) _ _ _ _ _)))
    rw [if_neg (by omega)]
    have ev : cond (tst 1 op 31868) (cond (tst 0 (cmp64 x1 0) 0) (0 : Int) (cond (tst 0 (cmp64 y1 0) 0) 0 1)) (cond (tst 1 (cmp64 x1 0) 0) 1 (cond (tst 0 (cmp64 y1 0) 0) 0 1)) = b2i (if op = 31868 then decide (x1 ≠ 0) || decide (y1 ≠ 0) else decide (x1 ≠ 0) && decide (y1 ≠ 0)) := by
      rw [tst1, tc0, tc0, tc1]
      by_cases q : op = 31868 <;> by_cases q1 : x1 = 0 <;> by_cases q2 : y1 = 0 <;> simp [q, q1, q2, b2i]
    rw [ev]
    have br := b2i_r (if op = 31868 then decide (x1 ≠ 0) || decide (y1 ≠ 0) else decide (x1 ≠ 0) && decide (y1 ≠ 0))
    refine Ends.cv l2 (by decide +kernel) (c_lay (k := k) l2 (by omega) h82 (by omega) (by omega) (by omega) (by decide)) (fun q2 l3 _ _ _ P => ?_)
    refine Ends.eq (b219_253 (n := n) (by (repeat' first | assumption | refine LX.setF _ _ ?_ (by decide +kernel) | refine LX.setS ?_ rfl | refine LX.setA ?_ (by first | assumption | omega))) (by first | assumption | omega)) ?_
    exact fin _ _ _ _ _ _ _ _ _ _ _ _ l3 P
  · have e410 : (if op = 9766 then 176 else if op = 31868 then 176 else 410) = 410 := by
      rw [if_neg (fun c => c5 (Or.inl c)), if_neg (fun c => c5 (Or.inr c))]
    rw [e410, if_neg c5]
    refine Ends.eq (b219_410 (n := n) (by (repeat' first | assumption | refine LX.setF _ _ ?_ (by decide +kernel) | refine LX.setS ?_ rfl | refine LX.setA ?_ (by first | assumption | omega))) (by first | assumption | omega)) ?_
    rw [mul64 (by omega) (by omega), mul64 (by omega) (by omega), cmpL]
    refine Ends.ct l2 (by decide +kernel) (by decide) (c_holds l2 (by omega)) (fun v q3 l3 _ _ _ ⟨ev, eh⟩ => ?_)
    subst ev eh
    refine Ends.eq (b219_428 (n := n) (by (repeat' first | assumption | refine LX.setF _ _ ?_ (by decide +kernel) | refine LX.setS ?_ rfl | refine LX.setA ?_ (by first | assumption | omega))) (by first | assumption | omega)) ?_
    have e0 : cond (tst 0 (b2i (hold op (if x1 * y2 < y1 * x2 then -1 else if x1 * y2 = y1 * x2 then 0 else 1))) 0) (0 : Int) 1 = b2i (hold op (cmpZ (x1 * y2) (y1 * x2))) := by
      unfold cmpZ
      cases hold op (if x1 * y2 < y1 * x2 then -1 else if x1 * y2 = y1 * x2 then 0 else 1) <;> rfl
    rw [e0]
    have br := b2i_r (hold op (cmpZ (x1 * y2) (y1 * x2)))
    refine Ends.cv l2 (by decide +kernel) (c_lay (k := k) l2 (by omega) h82 (by omega) (by omega) (by omega) (by decide)) (fun q2 l3 _ _ _ P => ?_)
    exact fin _ _ _ _ _ _ _ _ _ _ _ _ l3 P
end OPS
