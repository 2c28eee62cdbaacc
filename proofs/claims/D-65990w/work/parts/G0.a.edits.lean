/-! L3: the desk's edits of sketches -/
noncomputable section EDS
variable {gv : Nat → Int} {B n d s p k nl nd nk np m : Nat} {h : AH} {H : Nat → Nat → Int} {t : Nat → Nat} {dn tt tu mw : Nat} {c : Nat → Int} {u v a e f ax off : Int}
/-- an edit brought the cells to C -/
def EdR (B : Nat) (H : Nat → Nat → Int) (dn tu mw : Nat) (C : Nat → Int) (h h' : AH) : Prop := SX B h h' ∧ ∃ t', St B h' (fun i => if i ≤ dn then H i else C) t' (dn + 1) (dn + 1) (tu + 1) (mw + 80)
theorem sk_b (hs : s < 6) : skA s + 2592 ≤ 37368 := by unfold skA; omega
theorem sk_ix {i : Nat} (hs : s < 6) (hi : i < 2592) : bop32 96 (v391 (s : Int)) ((i : Nat) : Int) = ((skA s + i : Nat) : Int) := by
  have := sk_b hs
  rw [v391_is hs]
  exact addNN (by omega)
theorem i_1 (hk : k < 1000) : bop32 96 (k : Int) 1 = ((k + 1 : Nat) : Int) := addNN (y := 1) (by omega)
theorem i_k {i : Nat} (hk : k < 40000) (hi : i < 1000) : bop32 96 (k : Int) ((i : Nat) : Int) = ((k + i : Nat) : Int) := addNN (by omega)
/-- a number in the cells -/
theorem ix_is {i : Nat} (S : St B h H t dn tt tu mw) (hi : i < 37368) : q447 B h (i : Int) ∧ v447 B h (i : Int) = H dn i := cell_is S.2.2.2.2.2.2.2 hi
/-- the cells with one sketch more -/
def skC (c : Nat → Int) (s : Nat) (ax off : Int) : Nat → Int := upc (upc (upc (upc (upc (upc (upc c 3 ((s + 1 : Nat) : Int)) (skA s) ax) (skA s + 1) off) (skA s + 2) 0) (skA s + 27) 0) (skA s + 100) 0) (skA s + 479) 0
theorem c_add382 (l : LX B n h) (hd : 16 ≤ d) (S : St B h H t dn tt tu mw) (hs : s < 6) (h3 : H dn 3 = (s : Int)) (hdn : dn < 100) (htu : tu < 1000000) (hmw : mw + 100 < 1000000) :
    Vt 0 (cll PP (ev PP (gsF gv) B) d 382 [(2, rf (B + 56)), (0, ax), (0, off)] h) (fun x h' => x = (s : Int) ∧ EdR B H dn tu mw (skC (H dn) s ax off) h h') := by
  have sb := sk_b hs
  obtain ⟨a1, a2⟩ := ix_is (i := 3) S (by omega)
  rw [h3] at a2
  refine Vt.inq (D := 15) hd (Nat.le_of_ble_eq_true rfl) rfl (fun d hd Q K => ?_)
  refine Ends.eq (b382_0 (n := n) (by (repeat' first | assumption | refine LX.setF _ _ ?_ (by decide +kernel) | refine LX.setS ?_ rfl | refine LX.setA ?_ (by first | assumption | omega))) (by first | assumption | omega)) ?_
  rw [show v447 B h 3 = (s : Int) from a2]
  refine Ends.g a1 ?_
  refine Ends.cv l (by decide +kernel) (c_stBegin l (by omega) S hdn htu) (fun h0 l0 _ _ _ ⟨_, x0, S0⟩ => ?_)
  refine Ends.eq (b382_16 (n := n) (by (repeat' first | assumption | refine LX.setF _ _ ?_ (by decide +kernel) | refine LX.setS ?_ rfl | refine LX.setA ?_ (by first | assumption | omega))) (by first | assumption | omega)) ?_
  rw [i_1 (by omega)]
  refine Ends.cv l0 (by decide +kernel) (c_stSet (k := 3) (v := ((s + 1 : Nat) : Int)) l0 (by omega) S0 (by omega) (by omega)) (fun h1 l1 _ _ _ ⟨y1, S1⟩ => ?_)
  have x1 := x0.tr y1
  refine Ends.eq (b382_27 (n := n) (by (repeat' first | assumption | refine LX.setF _ _ ?_ (by decide +kernel) | refine LX.setS ?_ rfl | refine LX.setA ?_ (by first | assumption | omega))) (by first | assumption | omega)) ?_
  rw [v391_is hs]
  refine Ends.cv l1 (by decide +kernel) (c_stSet (k := skA s) (v := ax) l1 (by omega) S1 (by omega) (by omega)) (fun h2 l2 _ _ _ ⟨y2, S2⟩ => ?_)
  have x2 := x1.tr y2
  refine Ends.eq (b382_39 (n := n) (by (repeat' first | assumption | refine LX.setF _ _ ?_ (by decide +kernel) | refine LX.setS ?_ rfl | refine LX.setA ?_ (by first | assumption | omega))) (by first | assumption | omega)) ?_
  rw [show bop32 96 (v391 (s : Int)) 1 = ((skA s + 1 : Nat) : Int) from sk_ix (i := 1) hs (by omega)]
  refine Ends.cv l2 (by decide +kernel) (c_stSet (k := skA s + 1) (v := off) l2 (by omega) S2 (by omega) (by omega)) (fun h3 l3 _ _ _ ⟨y3, S3⟩ => ?_)
  have x3 := x2.tr y3
  refine Ends.eq (b382_53 (n := n) (by (repeat' first | assumption | refine LX.setF _ _ ?_ (by decide +kernel) | refine LX.setS ?_ rfl | refine LX.setA ?_ (by first | assumption | omega))) (by first | assumption | omega)) ?_
  rw [show bop32 96 (v391 (s : Int)) 2 = ((skA s + 2 : Nat) : Int) from sk_ix (i := 2) hs (by omega)]
  refine Ends.cv l3 (by decide +kernel) (c_stSet (k := skA s + 2) (v := 0) l3 (by omega) S3 (by omega) (by omega)) (fun h4 l4 _ _ _ ⟨y4, S4⟩ => ?_)
  have x4 := x3.tr y4
  refine Ends.eq (b382_67 (n := n) (by (repeat' first | assumption | refine LX.setF _ _ ?_ (by decide +kernel) | refine LX.setS ?_ rfl | refine LX.setA ?_ (by first | assumption | omega))) (by first | assumption | omega)) ?_
  rw [show bop32 96 (v391 (s : Int)) 27 = ((skA s + 27 : Nat) : Int) from sk_ix (i := 27) hs (by omega)]
  refine Ends.cv l4 (by decide +kernel) (c_stSet (k := skA s + 27) (v := 0) l4 (by omega) S4 (by omega) (by omega)) (fun h5 l5 _ _ _ ⟨y5, S5⟩ => ?_)
  have x5 := x4.tr y5
  refine Ends.eq (b382_82 (n := n) (by (repeat' first | assumption | refine LX.setF _ _ ?_ (by decide +kernel) | refine LX.setS ?_ rfl | refine LX.setA ?_ (by first | assumption | omega))) (by first | assumption | omega)) ?_
  rw [show bop32 96 (v391 (s : Int)) 100 = ((skA s + 100 : Nat) : Int) from sk_ix (i := 100) hs (by omega)]
  refine Ends.cv l5 (by decide +kernel) (c_stSet (k := skA s + 100) (v := 0) l5 (by omega) S5 (by omega) (by omega)) (fun h6 l6 _ _ _ ⟨y6, S6⟩ => ?_)
  have x6 := x5.tr y6
  refine Ends.eq (b382_97 (n := n) (by (repeat' first | assumption | refine LX.setF _ _ ?_ (by decide +kernel) | refine LX.setS ?_ rfl | refine LX.setA ?_ (by first | assumption | omega))) (by first | assumption | omega)) ?_
  rw [show bop32 96 (v391 (s : Int)) 479 = ((skA s + 479 : Nat) : Int) from sk_ix (i := 479) hs (by omega)]
  refine Ends.cv l6 (by decide +kernel) (c_stSet (k := skA s + 479) (v := 0) l6 (by omega) S6 (by omega) (by omega)) (fun h7 l7 _ _ _ ⟨y7, S7⟩ => ?_)
  have x7 := x6.tr y7
  refine Ends.eq (b382_113 (n := n) (by (repeat' first | assumption | refine LX.setF _ _ ?_ (by decide +kernel) | refine LX.setS ?_ rfl | refine LX.setA ?_ (by first | assumption | omega))) (by first | assumption | omega)) ?_
  refine Ends.cv l7 (by decide +kernel) (c_stEnd l7 (by omega) S7 hdn) (fun h9 l9 _ _ _ ⟨_, x9, t9, S9⟩ => ?_)
  refine Ends.eq (b382_120 (n := n) (by (repeat' first | assumption | refine LX.setF _ _ ?_ (by decide +kernel) | refine LX.setS ?_ rfl | refine LX.setA ?_ (by first | assumption | omega))) (by first | assumption | omega)) ?_
  exact Ends.sm (K _ _ ⟨rfl, ⟨x7.tr x9, t9, S9.mw (by omega)⟩⟩)
theorem c_place426 (l : LX B n h) (hd : 14 ≤ d) (S : Sw B h H t dn tu mw c) (hs : s < 6) (hp : p < 12) (hmw : mw + 10 < 1000000) :
    Vd (cll PP (ev PP (gsF gv) B) d 426 [(2, rf (B + 56)), (0, (s : Int)), (0, (p : Int)), (0, u), (0, v)] h) (fun h' => SX B h h' ∧ Sw B h' H t dn tu (mw + 1 + 1) (upc (upc c (skA s + 2 + 1 + 2 * p) u) (skA s + 2 + 2 + 2 * p) v)) := by
  have sb := sk_b hs
  refine Vd.inq (D := 13) hd (Nat.le_of_ble_eq_true rfl) rfl (fun d hd Q K => ?_)
  have ix : ∀ i : Nat, i < 3 → bop32 96 (bop32 96 (bop32 96 (v391 (s : Int)) 2) (i : Int)) (bop32 104 2 (p : Int)) = ((skA s + 2 + i + 2 * p : Nat) : Int) := fun i hi => by
    rw [show bop32 96 (v391 (s : Int)) 2 = ((skA s + 2 : Nat) : Int) from sk_ix (i := 2) hs (by omega), show bop32 104 2 (p : Int) = ((2 * p : Nat) : Int) from mulNN (x := 2) (by omega), i_k (k := skA s + 2) (by omega) (by omega)]
    exact addNN (by omega)
  refine Ends.eq (b426_0 (n := n) (by (repeat' first | assumption | refine LX.setF _ _ ?_ (by decide +kernel) | refine LX.setS ?_ rfl | refine LX.setA ?_ (by first | assumption | omega))) (by first | assumption | omega)) ?_
  rw [show bop32 96 (bop32 96 (bop32 96 (v391 (s : Int)) 2) 1) (bop32 104 2 (p : Int)) = ((skA s + 2 + 1 + 2 * p : Nat) : Int) from ix 1 (by omega)]
  refine Ends.cv l (by decide +kernel) (c_stSet (k := skA s + 2 + 1 + 2 * p) (v := u) l (by omega) S (by omega) (by omega)) (fun h1 l1 _ _ _ ⟨y1, S1⟩ => ?_)
  refine Ends.eq (b426_20 (n := n) (by (repeat' first | assumption | refine LX.setF _ _ ?_ (by decide +kernel) | refine LX.setS ?_ rfl | refine LX.setA ?_ (by first | assumption | omega))) (by first | assumption | omega)) ?_
  rw [show bop32 96 (bop32 96 (bop32 96 (v391 (s : Int)) 2) 2) (bop32 104 2 (p : Int)) = ((skA s + 2 + 2 + 2 * p : Nat) : Int) from ix 2 (by omega)]
  refine Ends.cv l1 (by decide +kernel) (c_stSet (k := skA s + 2 + 2 + 2 * p) (v := v) l1 (by omega) S1 (by omega) (by omega)) (fun h2 l2 _ _ _ ⟨y2, S2⟩ => ?_)
  refine Ends.eq (b426_41 (n := n) (by (repeat' first | assumption | refine LX.setF _ _ ?_ (by decide +kernel) | refine LX.setS ?_ rfl | refine LX.setA ?_ (by first | assumption | omega))) (by first | assumption | omega)) ?_
  exact Ends.sm (K _ ⟨y1.tr y2, S2⟩)
/-- the cells with one point more, with a point moved -/
def ptC (c : Nat → Int) (s p : Nat) (u v : Int) : Nat → Int := upc (upc (upc c (skA s + 2) ((p + 1 : Nat) : Int)) (skA s + 2 + 1 + 2 * p) u) (skA s + 2 + 2 + 2 * p) v
def dgC (c : Nat → Int) (s p : Nat) (u v : Int) : Nat → Int := upc (upc c (skA s + 2 + 1 + 2 * p) u) (skA s + 2 + 2 + 2 * p) v
theorem c_point428 (l : LX B n h) (hd : 16 ≤ d) (S : St B h H t dn tt tu mw) (hs : s < 6) (hp : H dn (skA s + 2) = (p : Int)) (p12 : p < 12) (hdn : dn < 100) (htu : tu < 1000000) (hmw : mw + 100 < 1000000) :
    Vt 0 (cll PP (ev PP (gsF gv) B) d 428 [(2, rf (B + 56)), (0, (s : Int)), (0, u), (0, v)] h) (fun x h' => x = (p : Int) ∧ EdR B H dn tu mw (ptC (H dn) s p u v) h h') := by
  have sb := sk_b hs
  obtain ⟨a1, a2⟩ := ix_is (i := skA s + 2) S (by omega)
  rw [hp] at a2
  have e2 : bop32 96 (v391 (s : Int)) 2 = ((skA s + 2 : Nat) : Int) := sk_ix (i := 2) hs (by omega)
  refine Vt.inq (D := 15) hd (Nat.le_of_ble_eq_true rfl) rfl (fun d hd Q K => ?_)
  refine Ends.eq (b428_0 (n := n) (by (repeat' first | assumption | refine LX.setF _ _ ?_ (by decide +kernel) | refine LX.setS ?_ rfl | refine LX.setA ?_ (by first | assumption | omega))) (by first | assumption | omega)) ?_
  rw [show v429 B h (s : Int) = (p : Int) from by unfold v429; rw [e2]; exact a2]
  refine Ends.g (by unfold q429; rw [e2]; exact a1) ?_
  refine Ends.cv l (by decide +kernel) (c_stBegin l (by omega) S hdn htu) (fun h0 l0 _ _ _ ⟨_, x0, S0⟩ => ?_)
  refine Ends.eq (b428_14 (n := n) (by (repeat' first | assumption | refine LX.setF _ _ ?_ (by decide +kernel) | refine LX.setS ?_ rfl | refine LX.setA ?_ (by first | assumption | omega))) (by first | assumption | omega)) ?_
  rw [e2, i_1 (by omega)]
  refine Ends.cv l0 (by decide +kernel) (c_stSet (k := skA s + 2) (v := ((p + 1 : Nat) : Int)) l0 (by omega) S0 (by omega) (by omega)) (fun h1 l1 _ _ _ ⟨y1, S1⟩ => ?_)
  have x1 := x0.tr y1
  refine Ends.eq (b428_31 (n := n) (by (repeat' first | assumption | refine LX.setF _ _ ?_ (by decide +kernel) | refine LX.setS ?_ rfl | refine LX.setA ?_ (by first | assumption | omega))) (by first | assumption | omega)) ?_
  refine Ends.cv l1 (by decide +kernel) (c_place426 l1 (by omega) S1 hs p12 (by omega)) (fun h2 l2 _ _ _ ⟨y2, S2⟩ => ?_)
  have x2 := x1.tr y2
  refine Ends.eq (b428_40 (n := n) (by (repeat' first | assumption | refine LX.setF _ _ ?_ (by decide +kernel) | refine LX.setS ?_ rfl | refine LX.setA ?_ (by first | assumption | omega))) (by first | assumption | omega)) ?_
  refine Ends.cv l2 (by decide +kernel) (c_stEnd l2 (by omega) S2 hdn) (fun h9 l9 _ _ _ ⟨_, x9, t9, S9⟩ => ?_)
  refine Ends.eq (b428_47 (n := n) (by (repeat' first | assumption | refine LX.setF _ _ ?_ (by decide +kernel) | refine LX.setS ?_ rfl | refine LX.setA ?_ (by first | assumption | omega))) (by first | assumption | omega)) ?_
  exact Ends.sm (K _ _ ⟨rfl, ⟨x2.tr x9, t9, S9.mw (by omega)⟩⟩)
theorem c_drag399 (l : LX B n h) (hd : 16 ≤ d) (S : St B h H t dn tt tu mw) (hs : s < 6) (p12 : p < 12) (hdn : dn < 100) (htu : tu < 1000000) (hmw : mw + 100 < 1000000) :
    Vd (cll PP (ev PP (gsF gv) B) d 399 [(2, rf (B + 56)), (0, (s : Int)), (0, (p : Int)), (0, u), (0, v)] h) (fun h' => EdR B H dn tu mw (dgC (H dn) s p u v) h h') := by
  have sb := sk_b hs
  refine Vd.inq (D := 15) hd (Nat.le_of_ble_eq_true rfl) rfl (fun d hd Q K => ?_)
  refine Ends.eq (b399_0 (n := n) (by (repeat' first | assumption | refine LX.setF _ _ ?_ (by decide +kernel) | refine LX.setS ?_ rfl | refine LX.setA ?_ (by first | assumption | omega))) (by first | assumption | omega)) ?_
  refine Ends.cv l (by decide +kernel) (c_stBegin l (by omega) S hdn htu) (fun h0 l0 _ _ _ ⟨_, x0, S0⟩ => ?_)
  refine Ends.eq (b399_7 (n := n) (by (repeat' first | assumption | refine LX.setF _ _ ?_ (by decide +kernel) | refine LX.setS ?_ rfl | refine LX.setA ?_ (by first | assumption | omega))) (by first | assumption | omega)) ?_
  refine Ends.cv l0 (by decide +kernel) (c_place426 l0 (by omega) S0 hs p12 (by omega)) (fun h1 l1 _ _ _ ⟨y1, S1⟩ => ?_)
  have x1 := x0.tr y1
  refine Ends.eq (b399_16 (n := n) (by (repeat' first | assumption | refine LX.setF _ _ ?_ (by decide +kernel) | refine LX.setS ?_ rfl | refine LX.setA ?_ (by first | assumption | omega))) (by first | assumption | omega)) ?_
  refine Ends.cv l1 (by decide +kernel) (c_stEnd l1 (by omega) S1 hdn) (fun h9 l9 _ _ _ ⟨_, x9, t9, S9⟩ => ?_)
  refine Ends.eq (b399_23 (n := n) (by (repeat' first | assumption | refine LX.setF _ _ ?_ (by decide +kernel) | refine LX.setS ?_ rfl | refine LX.setA ?_ (by first | assumption | omega))) (by first | assumption | omega)) ?_
  exact Ends.sm (K _ ⟨x1.tr x9, t9, S9.mw (by omega)⟩)
/-- the cells with one line more -/
def lnC (c : Nat → Int) (s k : Nat) (a e : Int) : Nat → Int := upc (upc (upc (upc c (skA s + 27) ((k + 1 : Nat) : Int)) (liA s k) a) (liA s k + 1) e) (liA s k + 2) 1
theorem c_addLine385 (l : LX B n h) (hd : 16 ≤ d) (S : St B h H t dn tt tu mw) (hs : s < 6) (hk : H dn (skA s + 27) = (k : Int)) (k24 : k < 24) (hdn : dn < 100) (htu : tu < 1000000) (hmw : mw + 100 < 1000000) :
    Vt 0 (cll PP (ev PP (gsF gv) B) d 385 [(2, rf (B + 56)), (0, (s : Int)), (0, a), (0, e)] h) (fun x h' => x = (k : Int) ∧ EdR B H dn tu mw (lnC (H dn) s k a e) h h') := by
  have sb := sk_b hs
  obtain ⟨a1, a2⟩ := ix_is (i := skA s + 27) S (by omega)
  rw [hk] at a2
  have e2 : bop32 96 (v391 (s : Int)) 27 = ((skA s + 27 : Nat) : Int) := sk_ix (i := 27) hs (by omega)
  have lb : liA s k + 3 ≤ 37368 := by unfold liA; omega
  refine Vt.inq (D := 15) hd (Nat.le_of_ble_eq_true rfl) rfl (fun d hd Q K => ?_)
  refine Ends.eq (b385_0 (n := n) (by (repeat' first | assumption | refine LX.setF _ _ ?_ (by decide +kernel) | refine LX.setS ?_ rfl | refine LX.setA ?_ (by first | assumption | omega))) (by first | assumption | omega)) ?_
  rw [show v419 B h (s : Int) = (k : Int) from by unfold v419; rw [e2]; exact a2]
  refine Ends.g (by unfold q419; rw [e2]; exact a1) ?_
  refine Ends.cv l (by decide +kernel) (c_stBegin l (by omega) S hdn htu) (fun h0 l0 _ _ _ ⟨_, x0, S0⟩ => ?_)
  refine Ends.eq (b385_14 (n := n) (by (repeat' first | assumption | refine LX.setF _ _ ?_ (by decide +kernel) | refine LX.setS ?_ rfl | refine LX.setA ?_ (by first | assumption | omega))) (by first | assumption | omega)) ?_
  rw [e2, i_1 (by omega)]
  refine Ends.cv l0 (by decide +kernel) (c_stSet (k := skA s + 27) (v := ((k + 1 : Nat) : Int)) l0 (by omega) S0 (by omega) (by omega)) (fun h1 l1 _ _ _ ⟨y1, S1⟩ => ?_)
  have x1 := x0.tr y1
  refine Ends.eq (b385_32 (n := n) (by (repeat' first | assumption | refine LX.setF _ _ ?_ (by decide +kernel) | refine LX.setS ?_ rfl | refine LX.setA ?_ (by first | assumption | omega))) (by first | assumption | omega)) ?_
  rw [v418_is hs k24]
  refine Ends.cv l1 (by decide +kernel) (c_stSet (k := liA s k) (v := a) l1 (by omega) S1 (by omega) (by omega)) (fun h2 l2 _ _ _ ⟨y2, S2⟩ => ?_)
  have x2 := x1.tr y2
  refine Ends.eq (b385_46 (n := n) (by (repeat' first | assumption | refine LX.setF _ _ ?_ (by decide +kernel) | refine LX.setS ?_ rfl | refine LX.setA ?_ (by first | assumption | omega))) (by first | assumption | omega)) ?_
  rw [v418_is hs k24, show bop32 96 ((liA s k : Nat) : Int) 1 = ((liA s k + 1 : Nat) : Int) from i_k (i := 1) (by omega) (by omega)]
  refine Ends.cv l2 (by decide +kernel) (c_stSet (k := liA s k + 1) (v := e) l2 (by omega) S2 (by omega) (by omega)) (fun h3 l3 _ _ _ ⟨y3, S3⟩ => ?_)
  have x3 := x2.tr y3
  refine Ends.eq (b385_62 (n := n) (by (repeat' first | assumption | refine LX.setF _ _ ?_ (by decide +kernel) | refine LX.setS ?_ rfl | refine LX.setA ?_ (by first | assumption | omega))) (by first | assumption | omega)) ?_
  rw [v418_is hs k24, show bop32 96 ((liA s k : Nat) : Int) 2 = ((liA s k + 2 : Nat) : Int) from i_k (i := 2) (by omega) (by omega)]
  refine Ends.cv l3 (by decide +kernel) (c_stSet (k := liA s k + 2) (v := 1) l3 (by omega) S3 (by omega) (by omega)) (fun h4 l4 _ _ _ ⟨y4, S4⟩ => ?_)
  have x4 := x3.tr y4
  refine Ends.eq (b385_78 (n := n) (by (repeat' first | assumption | refine LX.setF _ _ ?_ (by decide +kernel) | refine LX.setS ?_ rfl | refine LX.setA ?_ (by first | assumption | omega))) (by first | assumption | omega)) ?_
  refine Ends.cv l4 (by decide +kernel) (c_stEnd l4 (by omega) S4 hdn) (fun h9 l9 _ _ _ ⟨_, x9, t9, S9⟩ => ?_)
  refine Ends.eq (b385_85 (n := n) (by (repeat' first | assumption | refine LX.setF _ _ ?_ (by decide +kernel) | refine LX.setS ?_ rfl | refine LX.setA ?_ (by first | assumption | omega))) (by first | assumption | omega)) ?_
  exact Ends.sm (K _ _ ⟨rfl, ⟨x4.tr x9, t9, S9.mw (by omega)⟩⟩)
/-- the cells with one disc more -/
def dcC (c : Nat → Int) (s k : Nat) (a : Int) (b : Nat → Int) (m : Nat) : Nat → Int := txt (upc (upc (upc c (skA s + 100) ((k + 1 : Nat) : Int)) (diA s k) a) (diA s k + 1) 1) (diA s k + 2) b m
-- discs, constraints
theorem c_addDisc384 {b : Nat → Int} (l : LX B n h) (hd : 18 ≤ d) (S : St B h H t dn tt tu mw) (hs : s < 6) (hk : H dn (skA s + 100) = (k : Int)) (k6 : k < 6) (hbb : ∀ i, hv h (B + 26) i = b i) (hm : m ≤ 240) (hdn : dn < 100) (htu : tu < 1000000) (hmw : mw + 100 < 1000000) :
    Vt 0 (cll PP (ev PP (gsF gv) B) d 384 [(2, rf (B + 56)), (0, (s : Int)), (0, a), (2, rf (B + 26)), (0, (m : Int))] h) (fun x h' => x = (k : Int) ∧ EdR B H dn tu mw (dcC (H dn) s k a b m) h h') := by
  have sb := sk_b hs
  have hb0 := l.2.2
  obtain ⟨a1, a2⟩ := ix_is (i := skA s + 100) S (by omega)
  rw [hk] at a2
  have e2 : ∀ _ : Unit, bop32 96 (v391 (s : Int)) 100 = ((skA s + 100 : Nat) : Int) := fun _ => sk_ix (i := 100) hs (by omega)
  have lb : diA s k + 63 ≤ 37368 := by unfold diA; omega
  refine Vt.inq (D := 17) hd (Nat.le_of_ble_eq_true rfl) rfl (fun d hd Q K => ?_)
  refine Ends.eq (b384_0 (n := n) (by (repeat' first | assumption | refine LX.setF _ _ ?_ (by decide +kernel) | refine LX.setS ?_ rfl | refine LX.setA ?_ (by first | assumption | omega))) (by first | assumption | omega)) ?_
  rw [show v398 B h (s : Int) = (k : Int) from by unfold v398; rw [e2 ()]; exact a2]
  refine Ends.g (by unfold q398; rw [e2 ()]; exact a1) ?_
  refine Ends.cv l (by decide +kernel) (c_stBegin l (by omega) S hdn htu) (fun h0 l0 _ _ _ ⟨_, x0, S0⟩ => ?_)
  refine Ends.eq (b384_14 (n := n) (by (repeat' first | assumption | refine LX.setF _ _ ?_ (by decide +kernel) | refine LX.setS ?_ rfl | refine LX.setA ?_ (by first | assumption | omega))) (by first | assumption | omega)) ?_
  rw [e2 (), i_1 (by omega)]
  refine Ends.cv l0 (by decide +kernel) (c_stSet (k := skA s + 100) (v := ((k + 1 : Nat) : Int)) l0 (by omega) S0 (by omega) (by omega)) (fun h1 l1 _ _ _ ⟨y1, S1⟩ => ?_)
  have x1 := x0.tr y1
  refine Ends.eq (b384_32 (n := n) (by (repeat' first | assumption | refine LX.setF _ _ ?_ (by decide +kernel) | refine LX.setS ?_ rfl | refine LX.setA ?_ (by first | assumption | omega))) (by first | assumption | omega)) ?_
  rw [v396_is hs k6]
  refine Ends.cv l1 (by decide +kernel) (c_stSet (k := diA s k) (v := a) l1 (by omega) S1 (by omega) (by omega)) (fun h2 l2 _ _ _ ⟨y2, S2⟩ => ?_)
  have x2 := x1.tr y2
  refine Ends.eq (b384_46 (n := n) (by (repeat' first | assumption | refine LX.setF _ _ ?_ (by decide +kernel) | refine LX.setS ?_ rfl | refine LX.setA ?_ (by first | assumption | omega))) (by first | assumption | omega)) ?_
  rw [v396_is hs k6, show bop32 96 ((diA s k : Nat) : Int) 1 = ((diA s k + 1 : Nat) : Int) from i_k (i := 1) (by omega) (by omega)]
  refine Ends.cv l2 (by decide +kernel) (c_stSet (k := diA s k + 1) (v := 1) l2 (by omega) S2 (by omega) (by omega)) (fun h3 l3 _ _ _ ⟨y3, S3⟩ => ?_)
  have x3 := x2.tr y3
  refine Ends.eq (b384_62 (n := n) (by (repeat' first | assumption | refine LX.setF _ _ ?_ (by decide +kernel) | refine LX.setS ?_ rfl | refine LX.setA ?_ (by first | assumption | omega))) (by first | assumption | omega)) ?_
  rw [v396_is hs k6, show bop32 96 ((diA s k : Nat) : Int) 2 = ((diA s k + 2 : Nat) : Int) from i_k (i := 2) (by omega) (by omega)]
  refine Ends.cv l3 (by decide +kernel) (c_setText (k := diA s k + 2) (f := 0) (e := m) (N := 8192) l3 (by omega) S3 (by omega) (lk_26 l3) (by have := l3.2.2; omega) (by omega) (by decide) (Nat.zero_le m) hm (by omega)) (fun h4 l4 _ _ _ ⟨y4, S4⟩ => ?_)
  have x4 := x3.tr y4
  have tp : (fun z => hv h3 (B + 26) (0 + z)) = b := funext (fun z => by rw [Nat.zero_add, x3.at S.1 hb0 (by omega) z]; exact hbb z)
  rw [tp, Nat.sub_zero] at S4
  refine Ends.eq (b384_81 (n := n) (by (repeat' first | assumption | refine LX.setF _ _ ?_ (by decide +kernel) | refine LX.setS ?_ rfl | refine LX.setA ?_ (by first | assumption | omega))) (by first | assumption | omega)) ?_
  refine Ends.cv l4 (by decide +kernel) (c_stEnd l4 (by omega) S4 hdn) (fun h9 l9 _ _ _ ⟨_, x9, t9, S9⟩ => ?_)
  refine Ends.eq (b384_88 (n := n) (by (repeat' first | assumption | refine LX.setF _ _ ?_ (by decide +kernel) | refine LX.setS ?_ rfl | refine LX.setA ?_ (by first | assumption | omega))) (by first | assumption | omega)) ?_
  exact Ends.sm (K _ _ ⟨rfl, ⟨x4.tr x9, t9, S9.mw (by omega)⟩⟩)
/-- the cells with one constraint more -/
def cnC (c : Nat → Int) (s k : Nat) (kd a e f : Int) : Nat → Int := upc (upc (upc (upc (upc (upc c (skA s + 479) ((k + 1 : Nat) : Int)) (coA s k) kd) (coA s k + 1) a) (coA s k + 2) e) (coA s k + 3) f) (coA s k + 4) 1
theorem c_addConstraint383 {b : Nat → Int} {kd : Int} (l : LX B n h) (hd : 18 ≤ d) (S : St B h H t dn tt tu mw) (hs : s < 6) (hk : H dn (skA s + 479) = (k : Int)) (k32 : k < 32) (hbb : ∀ i, hv h (B + 26) i = b i) (hm : m ≤ 240) (hdn : dn < 100) (htu : tu < 1000000) (hmw : mw + 100 < 1000000) :
    Vt 0 (cll PP (ev PP (gsF gv) B) d 383 [(2, rf (B + 56)), (0, (s : Int)), (0, kd), (0, a), (0, e), (0, f), (2, rf (B + 26)), (0, (m : Int))] h) (fun x h' => x = (k : Int) ∧ EdR B H dn tu mw (if kd < 6 then txt (cnC (H dn) s k kd a e f) (coA s k + 5) b m else cnC (H dn) s k kd a e f) h h') := by
  have sb := sk_b hs
  have hb0 := l.2.2
  obtain ⟨a1, a2⟩ := ix_is (i := skA s + 479) S (by omega)
  rw [hk] at a2
  have e2 : ∀ _ : Unit, bop32 96 (v391 (s : Int)) 479 = ((skA s + 479 : Nat) : Int) := fun _ => sk_ix (i := 479) hs (by omega)
  have lb : coA s k + 66 ≤ 37368 := by unfold coA; omega
  refine Vt.inq (D := 17) hd (Nat.le_of_ble_eq_true rfl) rfl (fun d hd Q K => ?_)
  refine Ends.eq (b383_0 (n := n) (by (repeat' first | assumption | refine LX.setF _ _ ?_ (by decide +kernel) | refine LX.setS ?_ rfl | refine LX.setA ?_ (by first | assumption | omega))) (by first | assumption | omega)) ?_
  rw [show v394 B h (s : Int) = (k : Int) from by unfold v394; rw [e2 ()]; exact a2, v393_is hs k32]
  refine Ends.g (by unfold q394; rw [e2 ()]; exact a1) ?_
  refine Ends.cv l (by decide +kernel) (c_stBegin l (by omega) S hdn htu) (fun h0 l0 _ _ _ ⟨_, x0, S0⟩ => ?_)
  refine Ends.eq (b383_22 (n := n) (by (repeat' first | assumption | refine LX.setF _ _ ?_ (by decide +kernel) | refine LX.setS ?_ rfl | refine LX.setA ?_ (by first | assumption | omega))) (by first | assumption | omega)) ?_
  rw [e2 (), i_1 (by omega)]
  refine Ends.cv l0 (by decide +kernel) (c_stSet (k := skA s + 479) (v := ((k + 1 : Nat) : Int)) l0 (by omega) S0 (by omega) (by omega)) (fun h1 l1 _ _ _ ⟨y1, S1⟩ => ?_)
  have x1 := x0.tr y1
  refine Ends.eq (b383_41 (n := n) (by (repeat' first | assumption | refine LX.setF _ _ ?_ (by decide +kernel) | refine LX.setS ?_ rfl | refine LX.setA ?_ (by first | assumption | omega))) (by first | assumption | omega)) ?_
  refine Ends.cv l1 (by decide +kernel) (c_stSet (k := coA s k) (v := kd) l1 (by omega) S1 (by omega) (by omega)) (fun h2 l2 _ _ _ ⟨y2, S2⟩ => ?_)
  have x2 := x1.tr y2
  refine Ends.eq (b383_51 (n := n) (by (repeat' first | assumption | refine LX.setF _ _ ?_ (by decide +kernel) | refine LX.setS ?_ rfl | refine LX.setA ?_ (by first | assumption | omega))) (by first | assumption | omega)) ?_
  rw [show bop32 96 ((coA s k : Nat) : Int) 1 = ((coA s k + 1 : Nat) : Int) from i_k (i := 1) (by omega) (by omega)]
  refine Ends.cv l2 (by decide +kernel) (c_stSet (k := coA s k + 1) (v := a) l2 (by omega) S2 (by omega) (by omega)) (fun h3 l3 _ _ _ ⟨y3, S3⟩ => ?_)
  have x3 := x2.tr y3
  refine Ends.eq (b383_63 (n := n) (by (repeat' first | assumption | refine LX.setF _ _ ?_ (by decide +kernel) | refine LX.setS ?_ rfl | refine LX.setA ?_ (by first | assumption | omega))) (by first | assumption | omega)) ?_
  rw [show bop32 96 ((coA s k : Nat) : Int) 2 = ((coA s k + 2 : Nat) : Int) from i_k (i := 2) (by omega) (by omega)]
  refine Ends.cv l3 (by decide +kernel) (c_stSet (k := coA s k + 2) (v := e) l3 (by omega) S3 (by omega) (by omega)) (fun h4 l4 _ _ _ ⟨y4, S4⟩ => ?_)
  have x4 := x3.tr y4
  refine Ends.eq (b383_76 (n := n) (by (repeat' first | assumption | refine LX.setF _ _ ?_ (by decide +kernel) | refine LX.setS ?_ rfl | refine LX.setA ?_ (by first | assumption | omega))) (by first | assumption | omega)) ?_
  rw [show bop32 96 ((coA s k : Nat) : Int) 3 = ((coA s k + 3 : Nat) : Int) from i_k (i := 3) (by omega) (by omega)]
  refine Ends.cv l4 (by decide +kernel) (c_stSet (k := coA s k + 3) (v := f) l4 (by omega) S4 (by omega) (by omega)) (fun h5 l5 _ _ _ ⟨y5, S5⟩ => ?_)
  have x5 := x4.tr y5
  refine Ends.eq (b383_89 (n := n) (by (repeat' first | assumption | refine LX.setF _ _ ?_ (by decide +kernel) | refine LX.setS ?_ rfl | refine LX.setA ?_ (by first | assumption | omega))) (by first | assumption | omega)) ?_
  rw [show bop32 96 ((coA s k : Nat) : Int) 4 = ((coA s k + 4 : Nat) : Int) from i_k (i := 4) (by omega) (by omega)]
  refine Ends.cv l5 (by decide +kernel) (c_stSet (k := coA s k + 4) (v := 1) l5 (by omega) S5 (by omega) (by omega)) (fun h6 l6 _ _ _ ⟨y6, S6⟩ => ?_)
  have x6 := x5.tr y6
  by_cases z : kd < 6
  · rw [if_pos z] at K
    refine Ends.eq (b383_101 (n := n) (by (repeat' first | assumption | refine LX.setF _ _ ?_ (by decide +kernel) | refine LX.setS ?_ rfl | refine LX.setA ?_ (by first | assumption | omega))) (by first | assumption | omega)) ?_
    refine Ends.b3 (fun y => absurd y (by omega)) (fun _ => ?_)
    rw [show bop32 96 ((coA s k : Nat) : Int) 5 = ((coA s k + 5 : Nat) : Int) from i_k (i := 5) (by omega) (by omega)]
    refine Ends.cv l6 (by decide +kernel) (c_setText (k := coA s k + 5) (f := 0) (e := m) (N := 8192) l6 (by omega) S6 (by omega) (lk_26 l6) (by have := l6.2.2; omega) (by omega) (by decide) (Nat.zero_le m) hm (by omega)) (fun h7 l7 _ _ _ ⟨y7, S7⟩ => ?_)
    have x7 := x6.tr y7
    have tp : (fun z => hv h6 (B + 26) (0 + z)) = b := funext (fun z => by rw [Nat.zero_add, x6.at S.1 hb0 (by omega) z]; exact hbb z)
    rw [tp, Nat.sub_zero] at S7
    refine Ends.eq (b383_123 (n := n) (by (repeat' first | assumption | refine LX.setF _ _ ?_ (by decide +kernel) | refine LX.setS ?_ rfl | refine LX.setA ?_ (by first | assumption | omega))) (by first | assumption | omega)) ?_
    refine Ends.cv l7 (by decide +kernel) (c_stEnd l7 (by omega) S7 hdn) (fun h9 l9 _ _ _ ⟨_, x9, t9, S9⟩ => ?_)
    refine Ends.eq (b383_130 (n := n) (by (repeat' first | assumption | refine LX.setF _ _ ?_ (by decide +kernel) | refine LX.setS ?_ rfl | refine LX.setA ?_ (by first | assumption | omega))) (by first | assumption | omega)) ?_
    exact Ends.sm (K _ _ ⟨rfl, ⟨x7.tr x9, t9, S9.mw (by omega)⟩⟩)
  · rw [if_neg z] at K
    refine Ends.eq (b383_101 (n := n) (by (repeat' first | assumption | refine LX.setF _ _ ?_ (by decide +kernel) | refine LX.setS ?_ rfl | refine LX.setA ?_ (by first | assumption | omega))) (by first | assumption | omega)) ?_
    refine Ends.b3 (fun _ => ?_) (fun y => absurd y z)
    refine Ends.eq (b383_123 (n := n) (by (repeat' first | assumption | refine LX.setF _ _ ?_ (by decide +kernel) | refine LX.setS ?_ rfl | refine LX.setA ?_ (by first | assumption | omega))) (by first | assumption | omega)) ?_
    refine Ends.cv l6 (by decide +kernel) (c_stEnd l6 (by omega) S6 hdn) (fun h9 l9 _ _ _ ⟨_, x9, t9, S9⟩ => ?_)
    refine Ends.eq (b383_130 (n := n) (by (repeat' first | assumption | refine LX.setF _ _ ?_ (by decide +kernel) | refine LX.setS ?_ rfl | refine LX.setA ?_ (by first | assumption | omega))) (by first | assumption | omega)) ?_
    exact Ends.sm (K _ _ ⟨rfl, ⟨x6.tr x9, t9, S9.mw (by omega)⟩⟩)
/-- the place that says whether it is there -/
def drA (s k : Nat) (what : Int) : Nat := if what = 0 then liA s k + 2 else if what = 1 then diA s k + 1 else coA s k + 4
theorem c_drop400 {what : Int} (l : LX B n h) (hd : 16 ≤ d) (S : St B h H t dn tt tu mw) (hs : s < 6) (hk : (what = 0 ∧ k < 24) ∨ (what = 1 ∧ k < 6) ∨ (what ≠ 0 ∧ what ≠ 1 ∧ k < 32)) (hdn : dn < 100) (htu : tu < 1000000) (hmw : mw + 100 < 1000000) :
    Vd (cll PP (ev PP (gsF gv) B) d 400 [(2, rf (B + 56)), (0, (s : Int)), (0, what), (0, (k : Int))] h) (fun h' => EdR B H dn tu mw (upc (H dn) (drA s k what) 0) h h') := by
  have sb := sk_b hs
  refine Vd.inq (D := 15) hd (Nat.le_of_ble_eq_true rfl) rfl (fun d hd Q K => ?_)
  have bd : drA s k what < 37368 := by
    unfold drA liA diA coA
    split
    · omega
    · split <;> omega
  have ix : cond (tst 1 what 0) (cond (tst 1 what 1) (bop32 96 (v393 (s : Int) (k : Int)) 4) (bop32 96 (v396 (s : Int) (k : Int)) 1)) (bop32 96 (v418 (s : Int) (k : Int)) 2) = ((drA s k what : Nat) : Int) := by
    rw [ct1, ct1]
    unfold drA
    by_cases z : what = 0
    · rw [if_pos z, if_pos z, v418_is hs (by omega)]
      exact i_k (i := 2) (by unfold liA; omega) (by omega)
    · rw [if_neg z, if_neg z]
      by_cases y : what = 1
      · rw [if_pos y, if_pos y, v396_is hs (by omega)]
        exact i_k (i := 1) (by unfold diA; omega) (by omega)
      · rw [if_neg y, if_neg y, v393_is hs (by omega)]
        exact i_k (i := 4) (by unfold coA; omega) (by omega)
  refine Ends.eq (b400_0 (n := n) (by (repeat' first | assumption | refine LX.setF _ _ ?_ (by decide +kernel) | refine LX.setS ?_ rfl | refine LX.setA ?_ (by first | assumption | omega))) (by first | assumption | omega)) ?_
  refine Ends.cv l (by decide +kernel) (c_stBegin l (by omega) S hdn htu) (fun h0 l0 _ _ _ ⟨_, x0, S0⟩ => ?_)
  refine Ends.eq (b400_7 (n := n) (by (repeat' first | assumption | refine LX.setF _ _ ?_ (by decide +kernel) | refine LX.setS ?_ rfl | refine LX.setA ?_ (by first | assumption | omega))) (by first | assumption | omega)) ?_
  rw [ix]
  refine Ends.cv l0 (by decide +kernel) (c_stSet (k := drA s k what) (v := 0) l0 (by omega) S0 (by omega) (by omega)) (fun h1 l1 _ _ _ ⟨y1, S1⟩ => ?_)
  have x1 := x0.tr y1
  refine Ends.eq (b400_51 (n := n) (by (repeat' first | assumption | refine LX.setF _ _ ?_ (by decide +kernel) | refine LX.setS ?_ rfl | refine LX.setA ?_ (by first | assumption | omega))) (by first | assumption | omega)) ?_
  refine Ends.cv l1 (by decide +kernel) (c_stEnd l1 (by omega) S1 hdn) (fun h9 l9 _ _ _ ⟨_, x9, t9, S9⟩ => ?_)
  refine Ends.eq (b400_58 (n := n) (by (repeat' first | assumption | refine LX.setF _ _ ?_ (by decide +kernel) | refine LX.setS ?_ rfl | refine LX.setA ?_ (by first | assumption | omega))) (by first | assumption | omega)) ?_
  exact Ends.sm (K _ ⟨x1.tr x9, t9, S9.mw (by omega)⟩)
/-- a constraint is on that line -/
def hldP (cs : Nat → Cst) (xa xb : Nat → Int) (isC : Nat → Bool) (nk : Nat) (u : Int) : Prop := ∃ k, k < nk ∧ isC k = true ∧ 17 ≤ (cs k).1 ∧ (xa k = u ∨ xb k = u)
theorem c_isHeld409 {cs : Nat → Cst} {xa xb xc : Nat → Int} {isC : Nat → Bool} (l : LX B n h) (hd : 10 ≤ d) (hc : ∀ z, z < 37368 → hv h (B + 2) z = c z) (hs : s < 6) (C : CsD c s nk cs xa xb xc isC) : Vt 0 (cll PP (ev PP (gsF gv) B) d 409 [(2, rf (B + 56)), (0, (s : Int)), (0, u)] h) (fun x h' => h' = h ∧ ((x = 1 ∧ hldP cs xa xb isC nk u) ∨ (x = 0 ∧ ¬ hldP cs xa xb isC nk u))) := by
  refine Vt.inq (D := 9) hd (Nat.le_of_ble_eq_true rfl) rfl (fun d hd Q K => ?_)
  obtain ⟨c1, c2, c3⟩ := id C
  obtain ⟨a1, a2⟩ := v394_is hc hs C
  have key : ∀ (r k : Nat) (u4 : AV), k + r = nk → (∀ j, j < k → ¬ (isC j = true ∧ 17 ≤ (cs j).1 ∧ (xa j = u ∨ xb j = u))) → Ends (ev PP (gsF gv) B d 409 2 [(2, rf (B + 56)), (0, (s : Int)), (0, u), (0, (k : Int)), u4] [] h) Q := by
    intro r
    induction r with
    | zero =>
      intro k u4 ek no
      obtain rfl : k = nk := by omega
      refine Ends.eq (b409_2 (n := n) (by (repeat' first | assumption | refine LX.setF _ _ ?_ (by decide +kernel) | refine LX.setS ?_ rfl | refine LX.setA ?_ (by first | assumption | omega))) (by first | assumption | omega)) ?_
      rw [a2]
      exact Ends.g a1 (Ends.b3 (fun _ => Ends.sm (K _ _ ⟨rfl, Or.inr ⟨rfl, fun ⟨j, hj, z⟩ => no j hj z⟩⟩)) (fun z => absurd z (Int.lt_irrefl _)))
    | succ r ih =>
      intro k u4 ek no
      obtain ⟨e1, e2, e3, e4, e5, e6, -⟩ := c3 k (by omega)
      have cb : coA s k + 66 ≤ 37368 := by
        have := sk_b hs
        unfold coA; omega
      obtain ⟨p0, w0⟩ := cell_is (i := coA s k) hc (by omega)
      obtain ⟨p1, w1⟩ := cell_is (i := coA s k + 1) hc (by omega)
      obtain ⟨p2, w2⟩ := cell_is (i := coA s k + 2) hc (by omega)
      obtain ⟨q7, v7⟩ := v407_is hc hs C (k := k) (by omega)
      have skip : ¬ (isC k = true ∧ 17 ≤ (cs k).1 ∧ (xa k = u ∨ xb k = u)) → ∀ y4 : Int, Ends (ev PP (gsF gv) B d 409 73 [(2, rf (B + 56)), (0, (s : Int)), (0, u), (0, (k : Int)), (0, y4)] [] h) Q := fun z y4 => by
        refine Ends.eq (b409_73 (n := n) (by (repeat' first | assumption | refine LX.setF _ _ ?_ (by decide +kernel) | refine LX.setS ?_ rfl | refine LX.setA ?_ (by first | assumption | omega))) (by first | assumption | omega)) ?_
        rw [w_succ (by omega)]
        refine ih (k + 1) _ (by omega) (fun j hj => ?_)
        rcases (by omega : j < k ∨ j = k) with y | y
        · exact no j y
        · rw [y]; exact z
      have take : isC k = true → 17 ≤ (cs k).1 → (xa k = u ∨ xb k = u) → ∀ y4 : Int, Ends (ev PP (gsF gv) B d 409 71 [(2, rf (B + 56)), (0, (s : Int)), (0, u), (0, (k : Int)), (0, y4)] [] h) Q := fun z1 z2 z3 y4 => by
        refine Ends.eq (b409_71 (n := n) (by (repeat' first | assumption | refine LX.setF _ _ ?_ (by decide +kernel) | refine LX.setS ?_ rfl | refine LX.setA ?_ (by first | assumption | omega))) (by first | assumption | omega)) ?_
        exact Ends.sm (K _ _ ⟨rfl, Or.inl ⟨rfl, k, by omega, z1, z2, z3⟩⟩)
      refine Ends.eq (b409_2 (n := n) (by (repeat' first | assumption | refine LX.setF _ _ ?_ (by decide +kernel) | refine LX.setS ?_ rfl | refine LX.setA ?_ (by first | assumption | omega))) (by first | assumption | omega)) ?_
      rw [a2, v7, v393_is hs (by omega), show bop32 96 ((coA s k : Nat) : Int) 1 = ((coA s k + 1 : Nat) : Int) from i_k (i := 1) (by omega) (by omega), show bop32 96 ((coA s k : Nat) : Int) 2 = ((coA s k + 2 : Nat) : Int) from i_k (i := 2) (by omega) (by omega), w0, w1, w2, e1, e3, e4]
      refine Ends.g a1 (Ends.b3 (fun z => absurd z (by omega)) (fun _ => Ends.g q7 ?_))
      cases ec : isC k
      · exact Ends.b0 (fun _ => skip (fun y => by rw [ec] at y; cases y.1) _) (fun z => absurd rfl z)
      · refine Ends.b0 (fun z => absurd z (by decide)) (fun _ => Ends.g p0 (Ends.b2 (fun z => skip (fun y => by have := y.2.1; omega) _) (fun z => Ends.g p1 (Ends.b0 (fun z1 => take ec (by omega) (Or.inl z1) _) (fun z1 => Ends.g p2 (Ends.b1 (fun z2 => skip (fun y => y.2.2.elim z1 z2) _) (fun z2 => take ec (by omega) (Or.inr z2) _)))))))
  refine Ends.eq (b409_0 (n := n) (by (repeat' first | assumption | refine LX.setF _ _ ?_ (by decide +kernel) | refine LX.setS ?_ rfl | refine LX.setA ?_ (by first | assumption | omega))) (by first | assumption | omega)) ?_
  exact key nk 0 _ (by omega) (fun j hj => absurd hj (Nat.not_lt_zero j))
end EDS
