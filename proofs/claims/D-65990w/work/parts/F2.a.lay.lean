/-! L3: equations (desk): what a constraint says -/
section LAYD
variable {gv : Nat → Int} {B n d m : Nat} {h : AH} {L : List (Nat × Int)} {y : Int} {c : Nat → Int}
/-- where a sketch lies in the cells; a line of it, a constraint -/
def skA (s : Nat) : Nat := 9960 + 2592 * s
def liA (s k : Nat) : Nat := skA s + 28 + 3 * k
def coA (s k : Nat) : Nat := skA s + 480 + 66 * k
theorem v391_is {s : Nat} (hs : s < 6) : v391 (s : Int) = ((skA s : Nat) : Int) := by
  have : ∀ s : Fin 6, v391 ((s : Nat) : Int) = ((skA s : Nat) : Int) := by decide +kernel
  exact this ⟨s, hs⟩
theorem v393_is {s k : Nat} (hs : s < 6) (hk : k < 32) : v393 (s : Int) (k : Int) = ((coA s k : Nat) : Int) := by
  have : ∀ (s : Fin 6) (k : Fin 32), v393 ((s : Nat) : Int) ((k : Nat) : Int) = ((coA s k : Nat) : Int) := by decide +kernel
  exact this ⟨s, hs⟩ ⟨k, hk⟩
theorem v418_is {s k : Nat} (hs : s < 6) (hk : k < 24) : v418 (s : Int) (k : Int) = ((liA s k : Nat) : Int) := by
  have : ∀ (s : Fin 6) (k : Fin 24), v418 ((s : Nat) : Int) ((k : Nat) : Int) = ((liA s k : Nat) : Int) := by decide +kernel
  exact this ⟨s, hs⟩ ⟨k, hk⟩
/-- a cell of the store -/
theorem cell_is {i : Nat} (hc : ∀ z, z < 37368 → hv h (B + 2) z = c z) (hi : i < 37368) : q447 B h (i : Int) ∧ v447 B h (i : Int) = c i := by
  unfold q447 v447
  rw [tn, hc i hi]
  exact ⟨⟨by omega, by omega⟩, rfl⟩
theorem addK {i k : Nat} (h : i + k < 2147483648) : bop32 96 (i : Int) (k : Int) = ((i + k : Nat) : Int) := addNN h
/-- the row: what it makes at m, and terms -/
def RwL (B : Nat) (q : AH) (m : Nat) (y : Int) (L : List (Nat × Int)) : Prop := ∀ j, j < 25 → hv q (B + 58) j = (if j = m then y else 0) + tmS L j
theorem RwL.cg {q : AH} {L' : List (Nat × Int)} (r : RwL B q m y L) (e : ∀ j, tmS L j = tmS L' j) : RwL B q m y L' := fun j hj => by rw [r j hj, e]
theorem c_plus427 {p ax : Nat} {f : Int} (l : LX B n h) (hd : 10 ≤ d) (R : RwL B h m y L) (hp : p < 12) (ha : ax < 2) (hy : -1000 ≤ y ∧ y ≤ 1000) (hL : tmA L ≤ 1000) (hf : -2 ≤ f ∧ f ≤ 2) : Vd (cll PP (ev PP (gsF gv) B) d 427 [(2, rf (B + 56)), (0, (p : Int)), (0, (ax : Int)), (1, f)] h) (fun h' => Agr (fun c _ => c = B + 58) h h' ∧ RwL B h' m y ((2 * p + ax, f) :: L)) := by
  refine Vd.inq (D := 9) hd (Nat.le_of_ble_eq_true rfl) rfl (fun d hd Q K => ?_)
  refine Ends.eq (b427_0 l (by omega)) ?_
  have ab := tmS_abs L (2 * p + ax)
  rw [show bop32 104 2 (p : Int) = ((2 * p : Nat) : Int) from mulNN (x := 2) (by omega), addNN (x := 2 * p) (y := ax) (by omega), tn, R _ (by omega), an1, add64 (by split <;> omega) (by split <;> omega)]
  refine Ends.g ⟨by omega, by omega⟩ (Ends.sm (K _ ⟨Agr.rf.set rfl, fun j hj => ?_⟩))
  show _ = (if j = m then y else 0) + ((if 2 * p + ax = j then f else 0) + tmS L j)
  by_cases e : j = 2 * p + ax
  · rw [e, hv_set_at, if_pos (rfl : 2 * p + ax = 2 * p + ax)]; omega
  · rw [hv_set_ne (by omega), R j hj, if_neg (show ¬ 2 * p + ax = j from fun z => e z.symm)]; omega
theorem c_same433 {a b ax : Nat} (l : LX B n h) (hd : 12 ≤ d) (R : RwL B h m y L) (h1 : a < 12) (h2 : b < 12) (ha : ax < 2) (hy : -1000 ≤ y ∧ y ≤ 1000) (hL : tmA L ≤ 100) : Vd (cll PP (ev PP (gsF gv) B) d 433 [(2, rf (B + 56)), (0, (a : Int)), (0, (b : Int)), (0, (ax : Int))] h) (fun h' => Agr (fun c _ => c = B + 58) h h' ∧ RwL B h' m y ((2 * b + ax, -1) :: (2 * a + ax, 1) :: L)) := by
  refine Vd.inq (D := 11) hd (Nat.le_of_ble_eq_true rfl) rfl (fun d hd Q K => ?_)
  refine Ends.eq (b433_0 (n := n) (by (repeat' first | assumption | refine LX.setF _ _ ?_ (by decide +kernel) | refine LX.setS ?_ rfl | refine LX.setA ?_ (by first | assumption | omega))) (by first | assumption | omega)) ?_
  refine Ends.cv l (by decide +kernel) (c_plus427 (p := a) (ax := ax) (f := 1) l (by omega) R h1 ha hy (by omega) (by omega)) (fun q1 l1 _ _ _ ⟨g1, R1⟩ => ?_)
  refine Ends.eq (b433_7 (n := n) (by (repeat' first | assumption | refine LX.setF _ _ ?_ (by decide +kernel) | refine LX.setS ?_ rfl | refine LX.setA ?_ (by first | assumption | omega))) (by first | assumption | omega)) ?_
  refine Ends.cv l1 (by decide +kernel) (c_plus427 (p := b) (ax := ax) (f := -1) l1 (by omega) R1 h2 ha hy (by show 1 + tmA L ≤ 1000; omega) (by omega)) (fun q2 l2 _ _ _ ⟨g2, R2⟩ => ?_)
  refine Ends.eq (b433_16 (n := n) (by (repeat' first | assumption | refine LX.setF _ _ ?_ (by decide +kernel) | refine LX.setS ?_ rfl | refine LX.setA ?_ (by first | assumption | omega))) (by first | assumption | omega)) ?_
  exact Ends.sm (K _ ⟨g1.tr g2 (fun _ _ z => z), R2⟩)
theorem c_middle423 {a b e ax : Nat} (l : LX B n h) (hd : 12 ≤ d) (R : RwL B h m y L) (h1 : a < 12) (h2 : b < 12) (h3 : e < 12) (ha : ax < 2) (hy : -1000 ≤ y ∧ y ≤ 1000) (hL : tmA L ≤ 100) : Vd (cll PP (ev PP (gsF gv) B) d 423 [(2, rf (B + 56)), (0, (a : Int)), (0, (b : Int)), (0, (e : Int)), (0, (ax : Int))] h) (fun h' => Agr (fun c _ => c = B + 58) h h' ∧ RwL B h' m y ((2 * e + ax, -2) :: (2 * b + ax, 1) :: (2 * a + ax, 1) :: L)) := by
  refine Vd.inq (D := 11) hd (Nat.le_of_ble_eq_true rfl) rfl (fun d hd Q K => ?_)
  refine Ends.eq (b423_0 (n := n) (by (repeat' first | assumption | refine LX.setF _ _ ?_ (by decide +kernel) | refine LX.setS ?_ rfl | refine LX.setA ?_ (by first | assumption | omega))) (by first | assumption | omega)) ?_
  refine Ends.cv l (by decide +kernel) (c_plus427 (p := a) (ax := ax) (f := 1) l (by omega) R h1 ha hy (by omega) (by omega)) (fun q1 l1 _ _ _ ⟨g1, R1⟩ => ?_)
  refine Ends.eq (b423_8 (n := n) (by (repeat' first | assumption | refine LX.setF _ _ ?_ (by decide +kernel) | refine LX.setS ?_ rfl | refine LX.setA ?_ (by first | assumption | omega))) (by first | assumption | omega)) ?_
  refine Ends.cv l1 (by decide +kernel) (c_plus427 (p := b) (ax := ax) (f := 1) l1 (by omega) R1 h2 ha hy (by show 1 + tmA L ≤ 1000; omega) (by omega)) (fun q2 l2 _ _ _ ⟨g2, R2⟩ => ?_)
  refine Ends.eq (b423_16 (n := n) (by (repeat' first | assumption | refine LX.setF _ _ ?_ (by decide +kernel) | refine LX.setS ?_ rfl | refine LX.setA ?_ (by first | assumption | omega))) (by first | assumption | omega)) ?_
  refine Ends.cv l2 (by decide +kernel) (c_plus427 (p := e) (ax := ax) (f := -2) l2 (by omega) R2 h3 ha hy (by show 1 + (1 + tmA L) ≤ 1000; omega) (by omega)) (fun q3 l3 _ _ _ ⟨g3, R3⟩ => ?_)
  refine Ends.eq (b423_26 (n := n) (by (repeat' first | assumption | refine LX.setF _ _ ?_ (by decide +kernel) | refine LX.setS ?_ rfl | refine LX.setA ?_ (by first | assumption | omega))) (by first | assumption | omega)) ?_
  exact Ends.sm (K _ ⟨(g1.tr g2 (fun _ _ z => z)).tr g3 (fun _ _ z => z), R3⟩)
theorem c_step439 {s k fr to_ ax : Nat} {f : Int} (l : LX B n h) (hd : 12 ≤ d) (hc : ∀ z, z < 37368 → hv h (B + 2) z = c z) (hs : s < 6) (hk : k < 24) (e0 : c (liA s k) = (fr : Int)) (e1 : c (liA s k + 1) = (to_ : Int)) (R : RwL B h m y L) (h1 : fr < 12) (h2 : to_ < 12) (ha : ax < 2) (hy : -1000 ≤ y ∧ y ≤ 1000) (hL : tmA L ≤ 100) (hf : f = 1 ∨ f = -1) : Vd (cll PP (ev PP (gsF gv) B) d 439 [(2, rf (B + 56)), (0, (s : Int)), (0, (k : Int)), (0, (ax : Int)), (1, f)] h) (fun h' => Agr (fun c _ => c = B + 58) h h' ∧ RwL B h' m y ((2 * fr + ax, -f) :: (2 * to_ + ax, f) :: L)) := by
  have hl : liA s k < 37000 := by unfold liA skA; omega
  refine Vd.inq (D := 11) hd (Nat.le_of_ble_eq_true rfl) rfl (fun d hd Q K => ?_)
  refine Ends.eq (b439_0 (n := n) (by (repeat' first | assumption | refine LX.setF _ _ ?_ (by decide +kernel) | refine LX.setS ?_ rfl | refine LX.setA ?_ (by first | assumption | omega))) (by first | assumption | omega)) ?_
  rw [v418_is hs hk, show bop32 96 ((liA s k : Nat) : Int) 1 = ((liA s k + 1 : Nat) : Int) from addK (k := 1) (by omega)]
  obtain ⟨a1, a2⟩ := cell_is (i := liA s k + 1) hc (by omega)
  refine Ends.g a1 ?_
  rw [a2, e1]
  refine Ends.cv l (by decide +kernel) (c_plus427 (p := to_) (ax := ax) (f := f) l (by omega) R h2 ha hy (by omega) (by omega)) (fun q1 l1 _ _ _ ⟨g1, R1⟩ => ?_)
  refine Ends.eq (b439_21 (n := n) (by (repeat' first | assumption | refine LX.setF _ _ ?_ (by decide +kernel) | refine LX.setS ?_ rfl | refine LX.setA ?_ (by first | assumption | omega))) (by first | assumption | omega)) ?_
  rw [v418_is hs hk, show uop 1 f = -f from neg64 (by omega) (by omega)]
  obtain ⟨b1, b2⟩ := cell_is (B := B) (c := c) (h := q1) (i := liA s k) (fun z hz => by rw [g1.at _ _ (by omega)]; exact hc z hz) (by omega)
  refine Ends.g b1 ?_
  rw [b2, e0]
  refine Ends.cv l1 (by decide +kernel) (c_plus427 (p := fr) (ax := ax) (f := -f) l1 (by omega) R1 h1 ha hy (by show f.natAbs + tmA L ≤ 1000; omega) (by omega)) (fun q2 l2 _ _ _ ⟨g2, R2⟩ => ?_)
  refine Ends.eq (b439_41 (n := n) (by (repeat' first | assumption | refine LX.setF _ _ ?_ (by decide +kernel) | refine LX.setS ?_ rfl | refine LX.setA ?_ (by first | assumption | omega))) (by first | assumption | omega)) ?_
  exact Ends.sm (K _ ⟨g1.tr g2 (fun _ _ z => z), R2⟩)
/-- the sign with which the desk lays an equation -/
def sgC (kd : Nat) : Int := if kd = 6 ∨ kd = 7 then -1 else 1
theorem c_slope437 {kd a b fa ta fb tb : Nat} (l : LX B n h) (hd : 12 ≤ d) (hk : 6 ≤ kd ∧ kd ≤ 9) (R : RwL B h m y []) (h1 : a < 12) (h2 : b < 12) (hy : -1000 ≤ y ∧ y ≤ 1000) : Vd (cll PP (ev PP (gsF gv) B) d 437 [(2, rf (B + 56)), (0, (kd : Int)), (0, (a : Int)), (0, (b : Int))] h) (fun h' => Agr (fun c _ => c = B + 58) h h' ∧ ∃ L, RwL B h' m y L ∧ ∀ j e, tmS L j = sgC kd * tmS (eqL kd 0 a b e fa ta fb tb) j) := by
  refine Vd.inq (D := 11) hd (Nat.le_of_ble_eq_true rfl) rfl (fun d hd Q K => ?_)
  -- behind v
  have back : ∀ (q : AH) (L : List (Nat × Int)) (u4 u5 : AV), LX B n q → Agr (fun c _ => c = B + 58) h q → RwL B q m y L → tmA L ≤ 10 → ((kd = 6 ∧ L = [(2 * a + 1, -1), (2 * b + 1, 1)]) ∨ (kd = 7 ∧ L = []) ∨ ((kd = 8 ∨ kd = 9) ∧ L = [(2 * a + 1, -1), (2 * b + 1, 1)])) → Ends (ev PP (gsF gv) B d 437 22 [(2, rf (B + 56)), (0, (kd : Int)), (0, (a : Int)), (0, (b : Int)), u4, u5] [] q) Q := by
    intro q L u4 u5 lq g R hL hk1
    refine Ends.eq (b437_22 (n := n) (by (repeat' first | assumption | refine LX.setF _ _ ?_ (by decide +kernel) | refine LX.setS ?_ rfl | refine LX.setA ?_ (by first | assumption | omega))) (by first | assumption | omega)) ?_
    refine Ends.b0 (fun z => ?_) (fun z => ?_)
    · have k6 : kd = 6 := by omega
      subst k6
      refine Ends.eq (b437_60 (n := n) (by (repeat' first | assumption | refine LX.setF _ _ ?_ (by decide +kernel) | refine LX.setS ?_ rfl | refine LX.setA ?_ (by first | assumption | omega))) (by first | assumption | omega)) ?_
      refine Ends.sm (K _ ⟨g, L, R, fun j e => ?_⟩)
      rcases hk1 with ⟨-, e2⟩ | ⟨e2, -⟩ | ⟨e2, -⟩
      · rw [e2]
        show (if 2 * a + 1 = j then -1 else 0) + ((if 2 * b + 1 = j then 1 else 0) + 0) = -1 * ((if 2 * a + 1 = j then 1 else 0) + ((if 2 * b + 1 = j then -1 else 0) + 0))
        split <;> split <;> omega
      · omega
      · omega
    · have ef : cond (tst 1 (kd : Int) 8) (1 : Int) (-1) = if kd = 8 then -1 else 1 := by
        rw [ct1]
        by_cases e : kd = 8
        · rw [if_pos e, if_pos (by omega)]
        · rw [if_neg e, if_neg (by omega)]
      rw [ef]
      obtain ⟨f, eqf⟩ : ∃ f : Int, f = if kd = 8 then -1 else 1 := ⟨_, rfl⟩
      have hf : f = 1 ∨ f = -1 := by rw [eqf]; split <;> omega
      rw [← eqf]
      refine Ends.cv lq (by decide +kernel) (c_plus427 (p := b) (ax := 0) (f := f) lq (by omega) R h2 (by decide) hy (by omega) (by omega)) (fun q2 l2 _ _ _ ⟨g2, R2⟩ => ?_)
      refine Ends.eq (b437_51 (n := n) (by (repeat' first | assumption | refine LX.setF _ _ ?_ (by decide +kernel) | refine LX.setS ?_ rfl | refine LX.setA ?_ (by first | assumption | omega))) (by first | assumption | omega)) ?_
      rw [show uop 1 f = -f from neg64 (by omega) (by omega)]
      refine Ends.cv l2 (by decide +kernel) (c_plus427 (p := a) (ax := 0) (f := -f) l2 (by omega) R2 h1 (by decide) hy (by show f.natAbs + tmA L ≤ 1000; omega) (by omega)) (fun q3 l3 _ _ _ ⟨g3, R3⟩ => ?_)
      refine Ends.eq (b437_60 (n := n) (by (repeat' first | assumption | refine LX.setF _ _ ?_ (by decide +kernel) | refine LX.setS ?_ rfl | refine LX.setA ?_ (by first | assumption | omega))) (by first | assumption | omega)) ?_
      refine Ends.sm (K _ ⟨(g.tr g2 (fun _ _ z => z)).tr g3 (fun _ _ z => z), _, R3, fun j e => ?_⟩)
      rcases hk1 with ⟨e1, e2⟩ | ⟨e1, e2⟩ | ⟨e1, e2⟩
      · omega
      · subst e1
        rw [e2, eqf]
        show (if 2 * a + 0 = j then -1 else 0) + ((if 2 * b + 0 = j then 1 else 0) + 0) = -1 * ((if 2 * a = j then 1 else 0) + ((if 2 * b = j then -1 else 0) + 0))
        rw [Nat.add_zero, Nat.add_zero]
        split <;> split <;> omega
      · rw [e2, eqf]
        rcases e1 with e1 | e1
        · subst e1
          show (if 2 * a + 0 = j then 1 else 0) + ((if 2 * b + 0 = j then -1 else 0) + ((if 2 * a + 1 = j then -1 else 0) + ((if 2 * b + 1 = j then 1 else 0) + 0))) = 1 * ((if 2 * b + 1 = j then 1 else 0) + ((if 2 * a + 1 = j then -1 else 0) + ((if 2 * b = j then -1 else 0) + ((if 2 * a = j then 1 else 0) + 0))))
          rw [Nat.add_zero, Nat.add_zero]; omega
        · subst e1
          show (if 2 * a + 0 = j then -1 else 0) + ((if 2 * b + 0 = j then 1 else 0) + ((if 2 * a + 1 = j then -1 else 0) + ((if 2 * b + 1 = j then 1 else 0) + 0))) = 1 * ((if 2 * b + 1 = j then 1 else 0) + ((if 2 * a + 1 = j then -1 else 0) + ((if 2 * a = j then -1 else 0) + ((if 2 * b = j then 1 else 0) + 0))))
          rw [Nat.add_zero, Nat.add_zero]; omega
  refine Ends.eq (b437_0 (n := n) (by (repeat' first | assumption | refine LX.setF _ _ ?_ (by decide +kernel) | refine LX.setS ?_ rfl | refine LX.setA ?_ (by first | assumption | omega))) (by first | assumption | omega)) ?_
  refine Ends.b0 (fun z => ?_) (fun z => ?_)
  · exact back h [] _ _ l Agr.rf R (by decide) (Or.inr (Or.inl ⟨by omega, rfl⟩))
  · refine Ends.cv l (by decide +kernel) (c_plus427 (p := b) (ax := 1) (f := 1) l (by omega) R h2 (by decide) hy (Nat.le_of_ble_eq_true rfl) (by omega)) (fun q2 l2 _ _ _ ⟨g2, R2⟩ => ?_)
    refine Ends.eq (b437_13 (n := n) (by (repeat' first | assumption | refine LX.setF _ _ ?_ (by decide +kernel) | refine LX.setS ?_ rfl | refine LX.setA ?_ (by first | assumption | omega))) (by first | assumption | omega)) ?_
    refine Ends.cv l2 (by decide +kernel) (c_plus427 (p := a) (ax := 1) (f := -1) l2 (by omega) R2 h1 (by decide) hy (Nat.le_of_ble_eq_true rfl) (by omega)) (fun q3 l3 _ _ _ ⟨g3, R3⟩ => ?_)
    refine back q3 _ _ _ l3 (g2.tr g3 (fun _ _ z => z)) R3 (Nat.le_of_ble_eq_true rfl) ?_
    by_cases e6 : kd = 6
    · exact Or.inl ⟨e6, rfl⟩
    · exact Or.inr (Or.inr ⟨by omega, rfl⟩)
theorem c_pair425 {kd i a b e fa ta fb tb : Nat} (l : LX B n h) (hd : 14 ≤ d) (hk : 10 ≤ kd ∧ kd ≤ 16) (hi : i < 2) (R : RwL B h m y []) (h1 : a < 12) (h2 : b < 12) {xe : Int} (he : 11 ≤ kd → xe = (e : Int) ∧ e < 12) (hy : -1000 ≤ y ∧ y ≤ 1000) : Vd (cll PP (ev PP (gsF gv) B) d 425 [(2, rf (B + 56)), (0, (kd : Int)), (0, (i : Int)), (0, (a : Int)), (0, (b : Int)), (0, xe)] h) (fun h' => Agr (fun c _ => c = B + 58) h h' ∧ ∃ L, RwL B h' m y L ∧ ∀ j, tmS L j = tmS (eqL kd i a b e fa ta fb tb) j) := by
  refine Vd.inq (D := 13) hd (Nat.le_of_ble_eq_true rfl) rfl (fun d hd Q K => ?_)
  have i01 : i = 0 ∨ i = 1 := by omega
  refine Ends.eq (b425_0 (n := n) (by (repeat' first | assumption | refine LX.setF _ _ ?_ (by decide +kernel) | refine LX.setS ?_ rfl | refine LX.setA ?_ (by first | assumption | omega))) (by first | assumption | omega)) ?_
  refine Ends.b1 (fun z10 => Ends.b1 (fun z11 => Ends.b3 (fun z14 => ?_) (fun z14 => ?_)) (fun z11 => ?_)) (fun z10 => ?_)
  · have k14 : kd = 14 ∨ kd = 15 ∨ kd = 16 := by omega
    obtain ⟨ee, e12⟩ := he (by omega)
    subst ee
    obtain ⟨tu, etu⟩ : ∃ tu : Bool, tu = (decide (kd = 15) || (decide (kd = 16) && decide (i = 0))) := ⟨_, rfl⟩
    have et : cond (tst 0 (kd : Int) 15) (1 : Int) (cond (tst 1 (kd : Int) 16) 0 (cond (tst 1 (i : Int) 0) 0 1)) = if tu = true then 1 else 0 := by
      rw [ct0, ct1, ct1, etu]
      rcases k14 with k | k | k <;> subst k <;> rcases i01 with z | z <;> subst z <;> rfl
    rw [et]
    have f1 : cond (tst 0 (if tu = true then (1 : Int) else 0) 0) (-1 : Int) 1 = if tu = true then 1 else -1 := by cases tu <;> rfl
    have f2 : cond (tst 0 (if tu = true then (1 : Int) else 0) 0) (1 : Int) (-1) = if tu = true then -1 else 1 := by cases tu <;> rfl
    refine Ends.cv l (by decide +kernel) (c_plus427 (p := b) (ax := i) (f := 1) l (by omega) R h2 hi hy (Nat.le_of_ble_eq_true rfl) (by omega)) (fun q1 l1 _ _ _ ⟨g1, R1⟩ => ?_)
    refine Ends.eq (b425_105 (n := n) (by (repeat' first | assumption | refine LX.setF _ _ ?_ (by decide +kernel) | refine LX.setS ?_ rfl | refine LX.setA ?_ (by first | assumption | omega))) (by first | assumption | omega)) ?_
    refine Ends.cv l1 (by decide +kernel) (c_plus427 (p := e) (ax := i) (f := -1) l1 (by omega) R1 e12 hi hy (Nat.le_of_ble_eq_true rfl) (by omega)) (fun q2 l2 _ _ _ ⟨g2, R2⟩ => ?_)
    refine Ends.eq (b425_115 (n := n) (by (repeat' first | assumption | refine LX.setF _ _ ?_ (by decide +kernel) | refine LX.setS ?_ rfl | refine LX.setA ?_ (by first | assumption | omega))) (by first | assumption | omega)) ?_
    rw [f1, show bop32 100 1 (i : Int) = ((1 - i : Nat) : Int) from by rcases i01 with z | z <;> rw [z] <;> decide +kernel]
    refine Ends.cv l2 (by decide +kernel) (c_plus427 (p := a) (ax := 1 - i) (f := if tu = true then 1 else -1) l2 (by omega) R2 h1 (by omega) hy (Nat.le_of_ble_eq_true rfl) (by split <;> omega)) (fun q3 l3 _ _ _ ⟨g3, R3⟩ => ?_)
    refine Ends.eq (b425_135 (n := n) (by (repeat' first | assumption | refine LX.setF _ _ ?_ (by decide +kernel) | refine LX.setS ?_ rfl | refine LX.setA ?_ (by first | assumption | omega))) (by first | assumption | omega)) ?_
    rw [f2, show bop32 100 1 (i : Int) = ((1 - i : Nat) : Int) from by rcases i01 with z | z <;> rw [z] <;> decide +kernel]
    refine Ends.cv l3 (by decide +kernel) (c_plus427 (p := e) (ax := 1 - i) (f := if tu = true then -1 else 1) l3 (by omega) R3 e12 (by omega) hy (by show (if tu = true then (1 : Int) else -1).natAbs + 2 ≤ 1000; split <;> decide) (by split <;> omega)) (fun q4 l4 _ _ _ ⟨g4, R4⟩ => ?_)
    refine Ends.eq (b425_156 (n := n) (by (repeat' first | assumption | refine LX.setF _ _ ?_ (by decide +kernel) | refine LX.setS ?_ rfl | refine LX.setA ?_ (by first | assumption | omega))) (by first | assumption | omega)) ?_
    refine Ends.sm (K _ ⟨((g1.tr g2 (fun _ _ z => z)).tr g3 (fun _ _ z => z)).tr g4 (fun _ _ z => z), _, R4, fun j => ?_⟩)
    rw [etu]
    rcases k14 with k | k | k <;> subst k <;> rcases i01 with z | z <;> subst z
    · show (if 2 * e + 1 = j then (1 : Int) else 0) + ((if 2 * a + 1 = j then -1 else 0) + ((if 2 * e = j then -1 else 0) + ((if 2 * b = j then 1 else 0) + 0))) = (if 2 * b = j then 1 else 0) + ((if 2 * e = j then -1 else 0) + ((if 2 * a + 1 = j then -1 else 0) + ((if 2 * e + 1 = j then 1 else 0) + 0)))
      omega
    · show (if 2 * e = j then (1 : Int) else 0) + ((if 2 * a = j then -1 else 0) + ((if 2 * e + 1 = j then -1 else 0) + ((if 2 * b + 1 = j then 1 else 0) + 0))) = (if 2 * b + 1 = j then 1 else 0) + ((if 2 * e + 1 = j then -1 else 0) + ((if 2 * a = j then -1 else 0) + ((if 2 * e = j then 1 else 0) + 0)))
      omega
    · show (if 2 * e + 1 = j then (-1 : Int) else 0) + ((if 2 * a + 1 = j then 1 else 0) + ((if 2 * e = j then -1 else 0) + ((if 2 * b = j then 1 else 0) + 0))) = (if 2 * b = j then 1 else 0) + ((if 2 * e = j then -1 else 0) + ((if 2 * e + 1 = j then -1 else 0) + ((if 2 * a + 1 = j then 1 else 0) + 0)))
      omega
    · show (if 2 * e = j then (-1 : Int) else 0) + ((if 2 * a = j then 1 else 0) + ((if 2 * e + 1 = j then -1 else 0) + ((if 2 * b + 1 = j then 1 else 0) + 0))) = (if 2 * b + 1 = j then 1 else 0) + ((if 2 * e + 1 = j then -1 else 0) + ((if 2 * e = j then -1 else 0) + ((if 2 * a = j then 1 else 0) + 0)))
      omega
    · show (if 2 * e + 1 = j then (-1 : Int) else 0) + ((if 2 * a + 1 = j then 1 else 0) + ((if 2 * e = j then -1 else 0) + ((if 2 * b = j then 1 else 0) + 0))) = (if 2 * b = j then 1 else 0) + ((if 2 * e = j then -1 else 0) + ((if 2 * e + 1 = j then -1 else 0) + ((if 2 * a + 1 = j then 1 else 0) + 0)))
      omega
    · show (if 2 * e = j then (1 : Int) else 0) + ((if 2 * a = j then -1 else 0) + ((if 2 * e + 1 = j then -1 else 0) + ((if 2 * b + 1 = j then 1 else 0) + 0))) = (if 2 * b + 1 = j then 1 else 0) + ((if 2 * e + 1 = j then -1 else 0) + ((if 2 * a = j then -1 else 0) + ((if 2 * e = j then 1 else 0) + 0)))
      omega
  · have k12 : kd = 12 ∨ kd = 13 := by omega
    obtain ⟨ee, e12⟩ := he (by omega)
    subst ee
    rw [show bop32 100 (kd : Int) 12 = ((kd - 12 : Nat) : Int) from subNN (y := 12) (by omega) (by omega)]
    refine Ends.b1 (fun z => ?_) (fun z => ?_)
    · refine Ends.cv l (by decide +kernel) (c_same433 (a := a) (b := b) (ax := i) l (by omega) R h1 h2 hi hy (Nat.le_of_ble_eq_true rfl)) (fun q1 l1 _ _ _ ⟨g1, R1⟩ => ?_)
      refine Ends.eq (b425_71 (n := n) (by (repeat' first | assumption | refine LX.setF _ _ ?_ (by decide +kernel) | refine LX.setS ?_ rfl | refine LX.setA ?_ (by first | assumption | omega))) (by first | assumption | omega)) ?_
      refine Ends.eq (b425_156 (n := n) (by (repeat' first | assumption | refine LX.setF _ _ ?_ (by decide +kernel) | refine LX.setS ?_ rfl | refine LX.setA ?_ (by first | assumption | omega))) (by first | assumption | omega)) ?_
      refine Ends.sm (K _ ⟨g1, _, R1, fun j => ?_⟩)
      have ki : (kd = 12 ∧ i = 1) ∨ (kd = 13 ∧ i = 0) := by omega
      rcases ki with ⟨k, zi⟩ | ⟨k, zi⟩ <;> subst k <;> subst zi
      · show (if 2 * b + 1 = j then (-1 : Int) else 0) + ((if 2 * a + 1 = j then 1 else 0) + 0) = (if 2 * a + 1 = j then 1 else 0) + ((if 2 * b + 1 = j then -1 else 0) + 0)
        omega
      · show (if 2 * b + 0 = j then (-1 : Int) else 0) + ((if 2 * a + 0 = j then 1 else 0) + 0) = (if 2 * a = j then 1 else 0) + ((if 2 * b = j then -1 else 0) + 0)
        rw [Nat.add_zero, Nat.add_zero]; omega
    · refine Ends.cv l (by decide +kernel) (c_middle423 (a := a) (b := b) (e := e) (ax := i) l (by omega) R h1 h2 e12 hi hy (Nat.le_of_ble_eq_true rfl)) (fun q1 l1 _ _ _ ⟨g1, R1⟩ => ?_)
      refine Ends.eq (b425_60 (n := n) (by (repeat' first | assumption | refine LX.setF _ _ ?_ (by decide +kernel) | refine LX.setS ?_ rfl | refine LX.setA ?_ (by first | assumption | omega))) (by first | assumption | omega)) ?_
      refine Ends.eq (b425_156 (n := n) (by (repeat' first | assumption | refine LX.setF _ _ ?_ (by decide +kernel) | refine LX.setS ?_ rfl | refine LX.setA ?_ (by first | assumption | omega))) (by first | assumption | omega)) ?_
      refine Ends.sm (K _ ⟨g1, _, R1, fun j => ?_⟩)
      have ki : (kd = 12 ∧ i = 0) ∨ (kd = 13 ∧ i = 1) := by omega
      rcases ki with ⟨k, zi⟩ | ⟨k, zi⟩ <;> subst k <;> subst zi
      · show (if 2 * e + 0 = j then (-2 : Int) else 0) + ((if 2 * b + 0 = j then 1 else 0) + ((if 2 * a + 0 = j then 1 else 0) + 0)) = (if 2 * a = j then 1 else 0) + ((if 2 * b = j then 1 else 0) + ((if 2 * e = j then -2 else 0) + 0))
        rw [Nat.add_zero, Nat.add_zero, Nat.add_zero]; omega
      · show (if 2 * e + 1 = j then (-2 : Int) else 0) + ((if 2 * b + 1 = j then 1 else 0) + ((if 2 * a + 1 = j then 1 else 0) + 0)) = (if 2 * a + 1 = j then 1 else 0) + ((if 2 * b + 1 = j then 1 else 0) + ((if 2 * e + 1 = j then -2 else 0) + 0))
        omega
  · have k11 : kd = 11 := by omega
    obtain ⟨ee, e12⟩ := he (by omega)
    subst ee k11
    refine Ends.cv l (by decide +kernel) (c_middle423 (a := a) (b := b) (e := e) (ax := i) l (by omega) R h1 h2 e12 hi hy (Nat.le_of_ble_eq_true rfl)) (fun q1 l1 _ _ _ ⟨g1, R1⟩ => ?_)
    refine Ends.eq (b425_33 (n := n) (by (repeat' first | assumption | refine LX.setF _ _ ?_ (by decide +kernel) | refine LX.setS ?_ rfl | refine LX.setA ?_ (by first | assumption | omega))) (by first | assumption | omega)) ?_
    refine Ends.eq (b425_156 (n := n) (by (repeat' first | assumption | refine LX.setF _ _ ?_ (by decide +kernel) | refine LX.setS ?_ rfl | refine LX.setA ?_ (by first | assumption | omega))) (by first | assumption | omega)) ?_
    refine Ends.sm (K _ ⟨g1, _, R1, fun j => ?_⟩)
    rcases i01 with z | z <;> subst z
    · show (if 2 * e + 0 = j then (-2 : Int) else 0) + ((if 2 * b + 0 = j then 1 else 0) + ((if 2 * a + 0 = j then 1 else 0) + 0)) = (if 2 * a = j then 1 else 0) + ((if 2 * b = j then 1 else 0) + ((if 2 * e = j then -2 else 0) + 0))
      rw [Nat.add_zero, Nat.add_zero, Nat.add_zero]; omega
    · show (if 2 * e + 1 = j then (-2 : Int) else 0) + ((if 2 * b + 1 = j then 1 else 0) + ((if 2 * a + 1 = j then 1 else 0) + 0)) = (if 2 * a + 1 = j then 1 else 0) + ((if 2 * b + 1 = j then 1 else 0) + ((if 2 * e + 1 = j then -2 else 0) + 0))
      omega
  · have k10 : kd = 10 := by omega
    subst k10
    refine Ends.cv l (by decide +kernel) (c_same433 (a := a) (b := b) (ax := i) l (by omega) R h1 h2 hi hy (Nat.le_of_ble_eq_true rfl)) (fun q1 l1 _ _ _ ⟨g1, R1⟩ => ?_)
    refine Ends.eq (b425_14 (n := n) (by (repeat' first | assumption | refine LX.setF _ _ ?_ (by decide +kernel) | refine LX.setS ?_ rfl | refine LX.setA ?_ (by first | assumption | omega))) (by first | assumption | omega)) ?_
    refine Ends.eq (b425_156 (n := n) (by (repeat' first | assumption | refine LX.setF _ _ ?_ (by decide +kernel) | refine LX.setS ?_ rfl | refine LX.setA ?_ (by first | assumption | omega))) (by first | assumption | omega)) ?_
    refine Ends.sm (K _ ⟨g1, _, R1, fun j => ?_⟩)
    rcases i01 with z | z <;> subst z
    · show (if 2 * b + 0 = j then (-1 : Int) else 0) + ((if 2 * a + 0 = j then 1 else 0) + 0) = (if 2 * a = j then 1 else 0) + ((if 2 * b = j then -1 else 0) + 0)
      rw [Nat.add_zero, Nat.add_zero]; omega
    · show (if 2 * b + 1 = j then (-1 : Int) else 0) + ((if 2 * a + 1 = j then 1 else 0) + 0) = (if 2 * a + 1 = j then 1 else 0) + ((if 2 * b + 1 = j then -1 else 0) + 0)
      omega
theorem c_lines420 {s kd i a b e fa ta fb tb : Nat} (l : LX B n h) (hd : 14 ≤ d) (hc : ∀ z, z < 37368 → hv h (B + 2) z = c z) (hs : s < 6) (hk : 17 ≤ kd ∧ kd ≤ 23) (hi : i < 2) (hi2 : i = 1 → kd = 23) (R : RwL B h m y []) (h1 : a < 24) (h2 : b < 24) (a0 : c (liA s a) = (fa : Int)) (a1 : c (liA s a + 1) = (ta : Int)) (b0 : c (liA s b) = (fb : Int)) (b1 : c (liA s b + 1) = (tb : Int)) (p1 : fa < 12) (p2 : ta < 12) (p3 : fb < 12) (p4 : tb < 12) (hy : -1000 ≤ y ∧ y ≤ 1000) : Vd (cll PP (ev PP (gsF gv) B) d 420 [(2, rf (B + 56)), (0, (s : Int)), (0, (kd : Int)), (0, (i : Int)), (0, (a : Int)), (0, (b : Int))] h) (fun h' => Agr (fun c _ => c = B + 58) h h' ∧ ∃ L, RwL B h' m y L ∧ ∀ j, tmS L j = tmS (eqL kd i a b e fa ta fb tb) j) := by
  obtain ⟨ax, eax⟩ : ∃ ax : Nat, ax = if kd = 23 then i else if kd = 18 ∨ kd = 22 then 1 else 0 := ⟨_, rfl⟩
  obtain ⟨ax2, eax2⟩ : ∃ ax2 : Nat, ax2 = if kd = 19 ∨ kd = 20 then 1 else ax := ⟨_, rfl⟩
  obtain ⟨f, ef⟩ : ∃ f : Int, f = if 20 ≤ kd ∧ kd ≤ 22 then 1 else -1 := ⟨_, rfl⟩
  have k7 : kd = 17 ∨ kd = 18 ∨ kd = 19 ∨ kd = 20 ∨ kd = 21 ∨ kd = 22 ∨ kd = 23 := by omega
  have c1 : cond (tst 1 (kd : Int) 23) (cond (tst 0 (kd : Int) 18) (1 : Int) (cond (tst 1 (kd : Int) 22) 0 1)) (i : Int) = (ax : Int) := by
    rw [ct1, ct0, ct1, eax]
    rcases k7 with k | k | k | k | k | k | k <;> subst k <;> rfl
  have c2 : cond (tst 0 (kd : Int) 19) (1 : Int) (cond (tst 1 (kd : Int) 20) (ax : Int) 1) = (ax2 : Int) := by
    rw [ct0, ct1, eax2]
    rcases k7 with k | k | k | k | k | k | k <;> subst k <;> rfl
  have c3 : cond (tst 2 (kd : Int) 20) (-1 : Int) (cond (tst 4 (kd : Int) 22) (-1) 1) = f := by
    rw [ct2, ct4, ef]
    rcases k7 with k | k | k | k | k | k | k <;> subst k <;> rfl
  have x1 : ax < 2 := by rw [eax]; split <;> (try split) <;> omega
  have x2 : ax2 < 2 := by rw [eax2]; split <;> omega
  have xf : f = 1 ∨ f = -1 := by rw [ef]; split <;> omega
  refine Vd.inq (D := 13) hd (Nat.le_of_ble_eq_true rfl) rfl (fun d hd Q K => ?_)
  refine Ends.eq (b420_0 (n := n) (by (repeat' first | assumption | refine LX.setF _ _ ?_ (by decide +kernel) | refine LX.setS ?_ rfl | refine LX.setA ?_ (by first | assumption | omega))) (by first | assumption | omega)) ?_
  rw [c1, c2]
  refine Ends.cv l (by decide +kernel) (c_step439 (k := a) (fr := fa) (to_ := ta) (ax := ax) (f := 1) l (by omega) hc hs h1 a0 a1 R p1 p2 x1 hy (Nat.le_of_ble_eq_true rfl) (Or.inl rfl)) (fun q1 l1 _ _ _ ⟨g1, R1⟩ => ?_)
  refine Ends.eq (b420_59 (n := n) (by (repeat' first | assumption | refine LX.setF _ _ ?_ (by decide +kernel) | refine LX.setS ?_ rfl | refine LX.setA ?_ (by first | assumption | omega))) (by first | assumption | omega)) ?_
  rw [c3]
  refine Ends.cv l1 (by decide +kernel) (c_step439 (k := b) (fr := fb) (to_ := tb) (ax := ax2) (f := f) l1 (by omega) (fun z hz => by rw [g1.at _ _ (by omega)]; exact hc z hz) hs h2 b0 b1 R1 p3 p4 x2 hy (Nat.le_of_ble_eq_true rfl) xf) (fun q2 l2 _ _ _ ⟨g2, R2⟩ => ?_)
  refine Ends.eq (b420_87 (n := n) (by (repeat' first | assumption | refine LX.setF _ _ ?_ (by decide +kernel) | refine LX.setS ?_ rfl | refine LX.setA ?_ (by first | assumption | omega))) (by first | assumption | omega)) ?_
  refine Ends.sm (K _ ⟨g1.tr g2 (fun _ _ z => z), _, R2, fun j => ?_⟩)
  have gen : ∀ (p q r s : Nat) (g : Int), (if r = j then -g else 0) + ((if s = j then g else 0) + ((if q = j then (-1 : Int) else 0) + ((if p = j then 1 else 0) + 0))) = (if p = j then 1 else 0) + ((if q = j then -1 else 0) + ((if s = j then g else 0) + ((if r = j then -g else 0) + 0))) := fun p q r s g => by omega
  rcases k7 with k | k | k | k | k | k | k <;> subst k
  · obtain rfl : i = 0 := by omega
    obtain rfl : ax = 0 := eax
    obtain rfl : ax2 = 0 := eax2
    obtain rfl : f = -1 := ef
    exact gen (2 * ta) (2 * fa) (2 * fb) (2 * tb) (-1)
  · obtain rfl : i = 0 := by omega
    obtain rfl : ax = 1 := eax
    obtain rfl : ax2 = 1 := eax2
    obtain rfl : f = -1 := ef
    exact gen (2 * ta + 1) (2 * fa + 1) (2 * fb + 1) (2 * tb + 1) (-1)
  · obtain rfl : i = 0 := by omega
    obtain rfl : ax = 0 := eax
    obtain rfl : ax2 = 1 := eax2
    obtain rfl : f = -1 := ef
    exact gen (2 * ta) (2 * fa) (2 * fb + 1) (2 * tb + 1) (-1)
  · obtain rfl : i = 0 := by omega
    obtain rfl : ax = 0 := eax
    obtain rfl : ax2 = 1 := eax2
    obtain rfl : f = 1 := ef
    exact gen (2 * ta) (2 * fa) (2 * fb + 1) (2 * tb + 1) 1
  · obtain rfl : i = 0 := by omega
    obtain rfl : ax = 0 := eax
    obtain rfl : ax2 = 0 := eax2
    obtain rfl : f = 1 := ef
    exact gen (2 * ta) (2 * fa) (2 * fb) (2 * tb) 1
  · obtain rfl : i = 0 := by omega
    obtain rfl : ax = 1 := eax
    obtain rfl : ax2 = 1 := eax2
    obtain rfl : f = 1 := ef
    exact gen (2 * ta + 1) (2 * fa + 1) (2 * fb + 1) (2 * tb + 1) 1
  · obtain rfl : f = -1 := ef
    rcases (by omega : i = 0 ∨ i = 1) with z | z <;> subst z
    · obtain rfl : ax = 0 := eax
      obtain rfl : ax2 = 0 := eax2
      exact gen (2 * ta) (2 * fa) (2 * fb) (2 * tb) (-1)
    · obtain rfl : ax = 1 := eax
      obtain rfl : ax2 = 1 := eax2
      exact gen (2 * ta + 1) (2 * fa + 1) (2 * fb + 1) (2 * tb + 1) (-1)
/-- what the desk's cells say of a constraint's points and lines -/
def PtDk (c : Nat → Int) (s : Nat) (t : Cst) (xa xb xc : Int) : Prop := (t.1 < 17 → (xa = ((t.2.1 : Nat) : Int) ∧ t.2.1 < 12) ∧ (2 ≤ t.1 → xb = ((t.2.2.1 : Nat) : Int) ∧ t.2.2.1 < 12) ∧ (11 ≤ t.1 → xc = ((t.2.2.2.1 : Nat) : Int) ∧ t.2.2.2.1 < 12)) ∧ (17 ≤ t.1 → xa = ((t.2.1 : Nat) : Int) ∧ xb = ((t.2.2.1 : Nat) : Int) ∧ t.2.1 < 24 ∧ t.2.2.1 < 24 ∧ t.2.2.2.2.1 < 12 ∧ t.2.2.2.2.2.1 < 12 ∧ t.2.2.2.2.2.2.1 < 12 ∧ t.2.2.2.2.2.2.2 < 12 ∧ c (liA s t.2.1) = ((t.2.2.2.2.1 : Nat) : Int) ∧ c (liA s t.2.1 + 1) = ((t.2.2.2.2.2.1 : Nat) : Int) ∧ c (liA s t.2.2.1) = ((t.2.2.2.2.2.2.1 : Nat) : Int) ∧ c (liA s t.2.2.1 + 1) = ((t.2.2.2.2.2.2.2 : Nat) : Int))
/-- the constraints of sketch s in the desk's cells -/
def CsD (c : Nat → Int) (s nk : Nat) (cs : Nat → Cst) (xa xb xc : Nat → Int) (isC : Nat → Bool) : Prop := c (skA s + 479) = (nk : Int) ∧ nk ≤ 32 ∧ ∀ k, k < nk → c (coA s k) = (((cs k).1 : Nat) : Int) ∧ (cs k).1 < 24 ∧ c (coA s k + 1) = xa k ∧ c (coA s k + 2) = xb k ∧ c (coA s k + 3) = xc k ∧ c (coA s k + 4) = b2i (isC k) ∧ PtDk c s (cs k) (xa k) (xb k) (xc k)
theorem PtDk.pn {s : Nat} {t : Cst} {xa xb xc : Int} (P : PtDk c s t xa xb xc) : PnC t := by
  obtain ⟨p1, p2⟩ := P
  refine ⟨fun z => ?_, fun z => ?_⟩
  · obtain ⟨⟨_, a⟩, b, e⟩ := p1 z
    exact ⟨a, fun y => (b y).2, fun y => (e y).2⟩
  · obtain ⟨_, _, _, _, a, b, e, f, _⟩ := p2 z
    exact ⟨a, b, e, f⟩
/-- equation i comes into the row -/
theorem c_lay417 {s k i nk : Nat} {cs : Nat → Cst} {xa xb xc : Nat → Int} {isC : Nat → Bool} {w : Int} (l : LX B n h) (hd : 16 ≤ d) (hc : ∀ z, z < 37368 → hv h (B + 2) z = c z) (hs : s < 6) (C : CsD c s nk cs xa xb xc isC) (hk : k < nk) (hi : i < 2) (ok : okI (cs k) i) (h0 : hv h (B + 57) 0 = (m : Int)) (hm : m ≤ 24) (hw : -200 ≤ w ∧ w ≤ 200) : Vd (cll PP (ev PP (gsF gv) B) d 417 [(2, rf (B + 56)), (0, (s : Int)), (0, (k : Int)), (0, (i : Int)), (0, w)] h) (fun h' => Agr (fun c _ => c = B + 58) h h' ∧ ∀ j, j < 25 → hv h' (B + 58) j = (if j = m then w else 0) + sgC (cs k).1 * tmS (eqC (cs k) i) j) := by
  obtain ⟨C1, C2, C3⟩ := C
  obtain ⟨a1, a2, a3, a4, a5, a6, a7⟩ := C3 k hk
  revert ok a1 a2 a7
  generalize cs k = T
  intro ok a1 a2 a7
  obtain ⟨kd, a, b, e, fa, ta, fb, tb⟩ := T
  have a1 : c (coA s k) = (kd : Int) := a1
  have a2 : kd < 24 := a2
  have i2 : i = 1 → eq2 kd = true := fun z => by
    rcases ok with y | ⟨_, y⟩
    · omega
    · exact y
  obtain ⟨P1, P2⟩ := a7
  have hco : coA s k < 37000 := by unfold coA skA; omega
  obtain ⟨g0, v0⟩ := cell_is (i := coA s k) hc (by omega)
  obtain ⟨g1, v1⟩ := cell_is (i := coA s k + 1) hc (by omega)
  obtain ⟨g2, v2⟩ := cell_is (i := coA s k + 2) hc (by omega)
  obtain ⟨g3, v3⟩ := cell_is (i := coA s k + 3) hc (by omega)
  show Vd _ (fun h' => Agr (fun c _ => c = B + 58) h h' ∧ ∀ j, j < 25 → hv h' (B + 58) j = (if j = m then w else 0) + sgC kd * tmS (eqL kd i a b e fa ta fb tb) j)
  refine Vd.inq (D := 15) hd (Nat.le_of_ble_eq_true rfl) rfl (fun d hd Q K => ?_)
  refine Ends.eq (b417_0 (n := n) (by (repeat' first | assumption | refine LX.setF _ _ ?_ (by decide +kernel) | refine LX.setS ?_ rfl | refine LX.setA ?_ (by first | assumption | omega))) (by first | assumption | omega)) ?_
  rw [v393_is hs (by omega), show bop32 96 ((coA s k : Nat) : Int) 1 = ((coA s k + 1 : Nat) : Int) from addK (k := 1) (by omega), show bop32 96 ((coA s k : Nat) : Int) 2 = ((coA s k + 2 : Nat) : Int) from addK (k := 2) (by omega), show bop32 96 ((coA s k : Nat) : Int) 3 = ((coA s k + 3 : Nat) : Int) from addK (k := 3) (by omega), v0, v1, v2, v3, a1, a3, a4, a5]
  refine Ends.g g0 (Ends.g g1 (Ends.g g2 (Ends.g g3 ?_)))
  refine Ends.cv l (by decide +kernel) (c_empty132 l (by omega)) (fun q0 l0 _ _ _ ⟨ga, z0⟩ => ?_)
  refine Ends.eq (b417_64 (n := n) (by (repeat' first | assumption | refine LX.setF _ _ ?_ (by decide +kernel) | refine LX.setS ?_ rfl | refine LX.setA ?_ (by first | assumption | omega))) (by first | assumption | omega)) ?_
  rw [show hv q0 (B + 57) 0 = (m : Int) from by rw [ga.at _ _ (by omega)]; exact h0, tn, show uop 2 w = w from rfl, an1]
  refine Ends.g ⟨by omega, by omega⟩ ?_
  have l1 : LX B n (hset q0 (B + 58) m w) := l0.setS rfl
  have G1 : Agr (fun c _ => c = B + 58) h (hset q0 (B + 58) m w) := ga.set rfl
  have R1 : RwL B (hset q0 (B + 58) m w) m w [] := fun j hj => by
    show _ = (if j = m then w else 0) + 0
    by_cases y : j = m
    · rw [y, hv_set_at, if_pos rfl]; omega
    · rw [hv_set_ne (by omega), z0 j hj, if_neg y]; rfl
  obtain ⟨q1, eq1⟩ : ∃ q1, q1 = hset q0 (B + 58) m w := ⟨_, rfl⟩
  rw [← eq1] at l1 G1 R1 ⊢
  have hc1 : ∀ z, z < 37368 → hv q1 (B + 2) z = c z := fun z hz => by rw [G1.at _ _ (by omega)]; exact hc z hz
  have fin : ∀ (q : AH) (L : List (Nat × Int)) (x5 x6 x7 x8 x9 : Int) (u10 u11 : AV), LX B n q → Agr (fun c _ => c = B + 58) q1 q → RwL B q m w L → (∀ j, tmS L j = sgC kd * tmS (eqL kd i a b e fa ta fb tb) j) → Ends (ev PP (gsF gv) B d 417 250 [(2, rf (B + 56)), (0, (s : Int)), (0, (k : Int)), (0, (i : Int)), (0, w), (0, x5), (0, x6), (0, x7), (0, x8), (0, x9), u10, u11] [] q) Q := fun q L x5 x6 x7 x8 x9 u10 u11 lq g R eL => by
    refine Ends.eq (b417_250 (n := n) (by (repeat' first | assumption | refine LX.setF _ _ ?_ (by decide +kernel) | refine LX.setS ?_ rfl | refine LX.setA ?_ (by first | assumption | omega))) (by first | assumption | omega)) ?_
    exact Ends.sm (K _ ⟨G1.tr g (fun _ _ z => z), fun j hj => by rw [R j hj, eL j]⟩)
  have s1 : ¬ (kd = 6 ∨ kd = 7) → sgC kd = 1 := fun z => if_neg z
  refine Ends.b3 (fun k2 => Ends.b3 (fun k4 => Ends.b3 (fun k6 => Ends.b3 (fun k10 => Ends.b3 (fun k17 => ?_) (fun k17 => ?_)) (fun k10 => ?_)) (fun k6 => ?_)) (fun k4 => ?_)) (fun k2 => ?_)
  · obtain ⟨e1, e2, p1, p2, p3, p4, p5, p6, b1, b2, b3, b4⟩ := P2 (by show 17 ≤ kd; omega)
    rw [e1, e2]
    refine Ends.cv l1 (by decide +kernel) (c_lines420 (c := c) (e := e) l1 (by omega) hc1 hs (by omega) hi (fun z => by
      have := i2 z
      unfold eq2 at this
      rw [Bool.or_eq_true, decide_eq_true_eq, decide_eq_true_eq] at this
      omega) R1 p1 p2 b1 b2 b3 b4 p3 p4 p5 p6 (by omega)) (fun q2 l2 _ _ _ ⟨g2, L, R2, eL⟩ => ?_)
    exact fin q2 L _ _ _ _ _ _ _ l2 g2 R2 (fun j => by rw [eL j, s1 (by omega), Int.one_mul])
  · obtain ⟨⟨e1, p1⟩, p2, p3⟩ := P1 (by show kd < 17; omega)
    obtain ⟨e2, p2⟩ := p2 (by show 2 ≤ kd; omega)
    rw [e1, e2]
    refine Ends.cv l1 (by decide +kernel) (c_pair425 (e := e) (fa := fa) (ta := ta) (fb := fb) (tb := tb) l1 (by omega) (by omega) hi R1 p1 p2 p3 (by omega)) (fun q2 l2 _ _ _ ⟨g2, L, R2, eL⟩ => ?_)
    refine Ends.eq (b417_235 (n := n) (by (repeat' first | assumption | refine LX.setF _ _ ?_ (by decide +kernel) | refine LX.setS ?_ rfl | refine LX.setA ?_ (by first | assumption | omega))) (by first | assumption | omega)) ?_
    exact fin q2 L _ _ _ _ _ _ _ l2 g2 R2 (fun j => by rw [eL j, s1 (by omega), Int.one_mul])
  · obtain ⟨⟨e1, p1⟩, p2, p3⟩ := P1 (by show kd < 17; omega)
    obtain ⟨e2, p2⟩ := p2 (by show 2 ≤ kd; omega)
    have z0 : i = 0 := by
      rcases (by omega : i = 0 ∨ i = 1) with y | y
      · exact y
      · have := i2 y
        unfold eq2 at this
        rw [Bool.or_eq_true, decide_eq_true_eq, decide_eq_true_eq] at this
        omega
    rw [e1, e2]
    refine Ends.cv l1 (by decide +kernel) (c_slope437 (fa := fa) (ta := ta) (fb := fb) (tb := tb) l1 (by omega) (by omega) R1 p1 p2 (by omega)) (fun q2 l2 _ _ _ ⟨g2, L, R2, eL⟩ => ?_)
    refine Ends.eq (b417_212 (n := n) (by (repeat' first | assumption | refine LX.setF _ _ ?_ (by decide +kernel) | refine LX.setS ?_ rfl | refine LX.setA ?_ (by first | assumption | omega))) (by first | assumption | omega)) ?_
    exact fin q2 L _ _ _ _ _ _ _ l2 g2 R2 (fun j => by rw [eL j e, z0])
  · obtain ⟨⟨e1, p1⟩, p2, p3⟩ := P1 (by show kd < 17; omega)
    obtain ⟨e2, p2⟩ := p2 (by show 2 ≤ kd; omega)
    have z0 : i = 0 := by
      rcases (by omega : i = 0 ∨ i = 1) with y | y
      · exact y
      · have := i2 y
        unfold eq2 at this
        rw [Bool.or_eq_true, decide_eq_true_eq, decide_eq_true_eq] at this
        omega
    subst z0
    rw [e1, e2]
    obtain ⟨f, ef⟩ : ∃ f : Int, f = if kd = 4 then -1 else 1 := ⟨_, rfl⟩
    have hf : f = 1 ∨ f = -1 := by rw [ef]; split <;> omega
    rw [show cond (tst 1 (kd : Int) 4) (1 : Int) (-1) = f from by
      rw [ct1, ef]
      by_cases y : kd = 4
      · rw [if_pos y, if_pos (by omega)]
      · rw [if_neg y, if_neg (by omega)]]
    refine Ends.cv l1 (by decide +kernel) (c_plus427 (p := b) (ax := 1) (f := 1) l1 (by omega) R1 p2 (by decide) (by omega) (Nat.le_of_ble_eq_true rfl) (by omega)) (fun q2 l2 _ _ _ ⟨g2, R2⟩ => ?_)
    refine Ends.eq (b417_163 (n := n) (by (repeat' first | assumption | refine LX.setF _ _ ?_ (by decide +kernel) | refine LX.setS ?_ rfl | refine LX.setA ?_ (by first | assumption | omega))) (by first | assumption | omega)) ?_
    refine Ends.cv l2 (by decide +kernel) (c_plus427 (p := a) (ax := 1) (f := -1) l2 (by omega) R2 p1 (by decide) (by omega) (Nat.le_of_ble_eq_true rfl) (by omega)) (fun q3 l3 _ _ _ ⟨g3, R3⟩ => ?_)
    refine Ends.eq (b417_173 (n := n) (by (repeat' first | assumption | refine LX.setF _ _ ?_ (by decide +kernel) | refine LX.setS ?_ rfl | refine LX.setA ?_ (by first | assumption | omega))) (by first | assumption | omega)) ?_
    refine Ends.cv l3 (by decide +kernel) (c_plus427 (p := b) (ax := 0) (f := f) l3 (by omega) R3 p2 (by decide) (by omega) (Nat.le_of_ble_eq_true rfl) (by omega)) (fun q4 l4 _ _ _ ⟨g4, R4⟩ => ?_)
    refine Ends.eq (b417_182 (n := n) (by (repeat' first | assumption | refine LX.setF _ _ ?_ (by decide +kernel) | refine LX.setS ?_ rfl | refine LX.setA ?_ (by first | assumption | omega))) (by first | assumption | omega)) ?_
    rw [show uop 1 f = -f from neg64 (by omega) (by omega)]
    refine Ends.cv l4 (by decide +kernel) (c_plus427 (p := a) (ax := 0) (f := -f) l4 (by omega) R4 p1 (by decide) (by omega) (by show f.natAbs + 2 ≤ 1000; omega) (by omega)) (fun q5 l5 _ _ _ ⟨g5, R5⟩ => ?_)
    refine Ends.eq (b417_192 (n := n) (by (repeat' first | assumption | refine LX.setF _ _ ?_ (by decide +kernel) | refine LX.setS ?_ rfl | refine LX.setA ?_ (by first | assumption | omega))) (by first | assumption | omega)) ?_
    refine fin q5 _ _ _ _ _ _ _ _ l5 (((g2.tr g3 (fun _ _ z => z)).tr g4 (fun _ _ z => z)).tr g5 (fun _ _ z => z)) R5 (fun j => ?_)
    rw [s1 (by omega), ef]
    rcases (by omega : kd = 4 ∨ kd = 5) with y | y <;> subst y
    · show (if 2 * a + 0 = j then (1 : Int) else 0) + ((if 2 * b + 0 = j then -1 else 0) + ((if 2 * a + 1 = j then -1 else 0) + ((if 2 * b + 1 = j then 1 else 0) + 0))) = 1 * ((if 2 * b + 1 = j then 1 else 0) + ((if 2 * b = j then -1 else 0) + ((if 2 * a + 1 = j then -1 else 0) + ((if 2 * a = j then 1 else 0) + 0))))
      rw [Nat.add_zero, Nat.add_zero]; omega
    · show (if 2 * a + 0 = j then (-1 : Int) else 0) + ((if 2 * b + 0 = j then 1 else 0) + ((if 2 * a + 1 = j then -1 else 0) + ((if 2 * b + 1 = j then 1 else 0) + 0))) = 1 * ((if 2 * b = j then 1 else 0) + ((if 2 * b + 1 = j then 1 else 0) + ((if 2 * a = j then -1 else 0) + ((if 2 * a + 1 = j then -1 else 0) + 0))))
      rw [Nat.add_zero, Nat.add_zero]; omega
  · obtain ⟨⟨e1, p1⟩, p2, p3⟩ := P1 (by show kd < 17; omega)
    obtain ⟨e2, p2⟩ := p2 (by show 2 ≤ kd; omega)
    have z0 : i = 0 := by
      rcases (by omega : i = 0 ∨ i = 1) with y | y
      · exact y
      · have := i2 y
        unfold eq2 at this
        rw [Bool.or_eq_true, decide_eq_true_eq, decide_eq_true_eq] at this
        omega
    subst z0
    rw [e1, e2, show bop32 100 (kd : Int) 2 = ((kd - 2 : Nat) : Int) from subNN (y := 2) (by omega) (by omega)]
    refine Ends.cv l1 (by decide +kernel) (c_plus427 (p := b) (ax := kd - 2) (f := 1) l1 (by omega) R1 p2 (by omega) (by omega) (Nat.le_of_ble_eq_true rfl) (by omega)) (fun q2 l2 _ _ _ ⟨g2, R2⟩ => ?_)
    refine Ends.eq (b417_117 (n := n) (by (repeat' first | assumption | refine LX.setF _ _ ?_ (by decide +kernel) | refine LX.setS ?_ rfl | refine LX.setA ?_ (by first | assumption | omega))) (by first | assumption | omega)) ?_
    rw [show bop32 100 (kd : Int) 2 = ((kd - 2 : Nat) : Int) from subNN (y := 2) (by omega) (by omega)]
    refine Ends.cv l2 (by decide +kernel) (c_plus427 (p := a) (ax := kd - 2) (f := -1) l2 (by omega) R2 p1 (by omega) (by omega) (Nat.le_of_ble_eq_true rfl) (by omega)) (fun q3 l3 _ _ _ ⟨g3, R3⟩ => ?_)
    refine Ends.eq (b417_130 (n := n) (by (repeat' first | assumption | refine LX.setF _ _ ?_ (by decide +kernel) | refine LX.setS ?_ rfl | refine LX.setA ?_ (by first | assumption | omega))) (by first | assumption | omega)) ?_
    refine fin q3 _ _ _ _ _ _ _ _ l3 (g2.tr g3 (fun _ _ z => z)) R3 (fun j => ?_)
    rw [s1 (by omega)]
    rcases (by omega : kd = 2 ∨ kd = 3) with y | y <;> subst y
    · show (if 2 * a + 0 = j then (-1 : Int) else 0) + ((if 2 * b + 0 = j then 1 else 0) + 0) = 1 * ((if 2 * b = j then 1 else 0) + ((if 2 * a = j then -1 else 0) + 0))
      rw [Nat.add_zero, Nat.add_zero]; omega
    · show (if 2 * a + 1 = j then (-1 : Int) else 0) + ((if 2 * b + 1 = j then 1 else 0) + 0) = 1 * ((if 2 * b + 1 = j then 1 else 0) + ((if 2 * a + 1 = j then -1 else 0) + 0))
      omega
  · obtain ⟨⟨e1, p1⟩, p2, p3⟩ := P1 (by show kd < 17; omega)
    have z0 : i = 0 := by
      rcases (by omega : i = 0 ∨ i = 1) with y | y
      · exact y
      · have := i2 y
        unfold eq2 at this
        rw [Bool.or_eq_true, decide_eq_true_eq, decide_eq_true_eq] at this
        omega
    subst z0
    rw [e1]
    refine Ends.cv l1 (by decide +kernel) (c_plus427 (p := a) (ax := kd) (f := 1) l1 (by omega) R1 p1 (by omega) (by omega) (Nat.le_of_ble_eq_true rfl) (by omega)) (fun q2 l2 _ _ _ ⟨g2, R2⟩ => ?_)
    refine Ends.eq (b417_97 (n := n) (by (repeat' first | assumption | refine LX.setF _ _ ?_ (by decide +kernel) | refine LX.setS ?_ rfl | refine LX.setA ?_ (by first | assumption | omega))) (by first | assumption | omega)) ?_
    refine fin q2 _ _ _ _ _ _ _ _ l2 g2 R2 (fun j => ?_)
    rw [s1 (by omega)]
    rcases (by omega : kd = 0 ∨ kd = 1) with y | y <;> subst y
    · show (if 2 * a + 0 = j then (1 : Int) else 0) + 0 = 1 * ((if 2 * a = j then 1 else 0) + 0)
      rw [Nat.add_zero]; omega
    · show (if 2 * a + 1 = j then (1 : Int) else 0) + 0 = 1 * ((if 2 * a + 1 = j then 1 else 0) + 0)
      omega
end LAYD
