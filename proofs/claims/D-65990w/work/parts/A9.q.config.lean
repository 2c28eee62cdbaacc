/-! L3: the desk's configuration -/
section CONFIG
variable {gv : Nat → Int} {B n d : Nat} {h : AH} {H : Nat → Nat → Int} {s : Nat → Nat} {dn tt tu mw nv nc : Nat}
/-- the texts of CONFIGURATION nc of the first i VALUES are taken away -/
def cfZ (c : Nat → Int) (nc : Nat) : Nat → Nat → Int
  | 0 => c
  | i + 1 => upc (cfZ c nc i) (fo i nc) 0
/-- the cells with one CONFIGURATION more -/
def cfC (c : Nat → Int) (nc : Nat) (base : Int) : Nat → Int := cfZ (upc (upc c 1 ((nc + 1 : Nat) : Int)) (30 + nc) base) nc 40
theorem c_config10 {k : Nat} (l : LX B n h) (hd : 20 ≤ d) (S : St B h H s dn tt tu mw) (D : DW (H dn) nv nc) (hk' : k < nc) (h4 : nc < 4) (hdn : dn < 100) (htu : tu < 1000000) (hmw : mw + 60 < 1000000) :
    Vt 0 (cll PP (ev PP (gsF gv) B) d 10 [(2, rf (B + 0)), (0, (k : Int))] h) (fun x h' => x = (nc : Int) ∧ SX B h h' ∧ ∃ s', St B h' (fun i => if i ≤ dn then H i else cfC (H dn) nc (k : Int)) s' (dn + 1) (dn + 1) (tu + 1) (mw + 42)) := by
  have hcs : ∀ z, z < 37368 → hv h (B + 2) z = H dn z := S.2.2.2.2.2.2.2
  refine Vt.into (D := 19) hd (Nat.le_of_ble_eq_true rfl) rfl (fun d hd => ?_)
  refine Ends.eq (b10_0 (n := n) (by (repeat' first | assumption | refine LX.setF _ _ ?_ (by decide +kernel) | refine LX.setS ?_ rfl | refine LX.setA ?_ (by first | assumption | omega))) (by first | assumption | omega)) ?_
  rw [v45_is hcs D, if_pos ⟨by omega, by omega⟩]
  refine Ends.g (by unfold q45 q447; omega) ?_
  refine Ends.cvx l (by decide +kernel) (c_need64 l (by omega)) (fun h1 l1 _ _ ⟨_, e1⟩ => ?_) (fun x h1 l1 _ _ ⟨z, _⟩ => absurd z (by decide))
  subst e1
  refine Ends.eq (b10_8 (n := n) (by (repeat' first | assumption | refine LX.setF _ _ ?_ (by decide +kernel) | refine LX.setS ?_ rfl | refine LX.setA ?_ (by first | assumption | omega))) (by first | assumption | omega)) ?_
  rw [show v447 B h1 1 = (nc : Int) from by unfold v447; exact (hcs 1 (by decide)).trans D.2.2.1, tst3, decide_eq_true (show (nc : Int) < 4 by omega)]
  refine Ends.g (by unfold q447; omega) ?_
  refine Ends.cvx l1 (by decide +kernel) (c_state93 l1 (by omega)) (fun h2 l2 _ _ ⟨_, e2⟩ => ?_) (fun x h2 l2 _ _ ⟨z, _⟩ => absurd z (by decide))
  subst e2
  refine Ends.eq (b10_30 (n := n) (by (repeat' first | assumption | refine LX.setF _ _ ?_ (by decide +kernel) | refine LX.setS ?_ rfl | refine LX.setA ?_ (by first | assumption | omega))) (by first | assumption | omega)) ?_
  refine Ends.cv l2 (by decide +kernel) (c_stBegin l2 (by omega) S hdn htu) (fun h3 l3 _ _ _ ⟨_, x3, S3⟩ => ?_)
  refine Ends.eq (b10_37 (n := n) (by (repeat' first | assumption | refine LX.setF _ _ ?_ (by decide +kernel) | refine LX.setS ?_ rfl | refine LX.setA ?_ (by first | assumption | omega))) (by first | assumption | omega)) ?_
  rw [b96_1 (by omega)]
  refine Ends.cv l3 (by decide +kernel) (c_stSet l3 (by omega) S3 (k := 1) (by decide) (by omega)) (fun h5 l5 _ _ _ ⟨x5, S5⟩ => ?_)
  refine Ends.eq (b10_48 (n := n) (by (repeat' first | assumption | refine LX.setF _ _ ?_ (by decide +kernel) | refine LX.setS ?_ rfl | refine LX.setA ?_ (by first | assumption | omega))) (by first | assumption | omega)) ?_
  rw [show bop32 96 (30 : Int) (nc : Int) = ((30 + nc : Nat) : Int) from addNN (x := 30) (by omega)]
  refine Ends.cv l5 (by decide +kernel) (c_stSet l5 (by omega) S5 (k := 30 + nc) (by omega) (by omega)) (fun h6 l6 _ _ _ ⟨x6, S6⟩ => ?_)
  have X6 := (x3.tr x5).tr x6
  refine Ends.eq (b10_60 (n := n) (by (repeat' first | assumption | refine LX.setF _ _ ?_ (by decide +kernel) | refine LX.setS ?_ rfl | refine LX.setA ?_ (by first | assumption | omega))) (by first | assumption | omega)) ?_
  have key : ∀ (r i : Nat) (q : AH), i + r = 40 → LX B n q → SX B h2 q → Sw B q H s dn (tu + 1) (mw + 2 + i) (cfZ (upc (upc (H dn) 1 ((nc + 1 : Nat) : Int)) (30 + nc) (k : Int)) nc i) → Ends (ev PP (gsF gv) B d 10 62 [(2, rf (B + 0)), (0, (k : Int)), (0, (nc : Int)), (0, (i : Int))] [] q) (fun r => ∃ x h', r = ((0, (0, x)), h') ∧ x = (nc : Int) ∧ SX B h2 h' ∧ ∃ s', St B h' (fun i => if i ≤ dn then H i else cfC (H dn) nc (k : Int)) s' (dn + 1) (dn + 1) (tu + 1) (mw + 42)) := by
    intro r
    induction r with
    | zero =>
      intro i q hi lq X Sq
      obtain rfl : i = 40 := by omega
      refine Ends.eq (b10_62 (n := n) (by (repeat' first | assumption | refine LX.setF _ _ ?_ (by decide +kernel) | refine LX.setS ?_ rfl | refine LX.setA ?_ (by first | assumption | omega))) (by first | assumption | omega)) ?_
      refine Ends.b3 (fun _ => ?_) (fun z => absurd z (by decide))
      refine Ends.cv lq (by decide +kernel) (c_stEnd lq (by omega) Sq hdn) (fun h7 l7 _ _ _ ⟨_, x7, s', S7⟩ => ?_)
      refine Ends.eq (b10_94 (n := n) (by (repeat' first | assumption | refine LX.setF _ _ ?_ (by decide +kernel) | refine LX.setS ?_ rfl | refine LX.setA ?_ (by first | assumption | omega))) (by first | assumption | omega)) ?_
      exact Ends.sm ⟨_, _, rfl, rfl, X.tr x7, s', S7⟩
    | succ r ih =>
      intro i q hi lq X Sq
      refine Ends.eq (b10_62 (n := n) (by (repeat' first | assumption | refine LX.setF _ _ ?_ (by decide +kernel) | refine LX.setS ?_ rfl | refine LX.setA ?_ (by first | assumption | omega))) (by first | assumption | omega)) ?_
      rw [fo_is (by omega) (by omega)]
      refine Ends.b3 (fun z => by omega) (fun _ => ?_)
      refine Ends.cv lq (by decide +kernel) (c_stSet lq (by omega) Sq (k := fo i nc) (by unfold fo; omega) (by omega)) (fun h7 l7 _ _ _ ⟨x7, S7⟩ => ?_)
      refine Ends.eq (b10_81 (n := n) (by (repeat' first | assumption | refine LX.setF _ _ ?_ (by decide +kernel) | refine LX.setS ?_ rfl | refine LX.setA ?_ (by first | assumption | omega))) (by first | assumption | omega)) ?_
      rw [w_succ (by omega)]
      exact ih (i + 1) h7 (by omega) l7 (X.tr x7) S7
  exact key 40 0 h6 rfl l6 X6 S6
end CONFIG
