/-! L3: the desk's choose, undo, redo -/
section CHOOSE
variable {gv : Nat → Int} {B n d : Nat} {h : AH} {H : Nat → Nat → Int} {s : Nat → Nat} {dn tt tu mw nv nc : Nat}
theorem c_choose6 {k : Nat} (l : LX B n h) (hd : 20 ≤ d) (S : St B h H s dn tt tu mw) (D : DW (H dn) nv nc) (hk' : k < nc) (hdn : dn < 100) (htu : tu < 1000000) (hmw : mw + 10 < 1000000) :
    Vt 0 (cll PP (ev PP (gsF gv) B) d 6 [(2, rf (B + 0)), (0, (k : Int))] h) (fun x h' => x = H dn 2 ∧ SX B h h' ∧ ∃ s', St B h' (fun i => if i ≤ dn then H i else upc (H dn) 2 (k : Int)) s' (dn + 1) (dn + 1) (tu + 1) (mw + 1)) := by
  have hcs : ∀ z, z < 37368 → hv h (B + 2) z = H dn z := S.2.2.2.2.2.2.2
  refine Vt.into (D := 19) hd (Nat.le_of_ble_eq_true rfl) rfl (fun d hd => ?_)
  refine Ends.eq (b6_0 (n := n) (by (repeat' first | assumption | refine LX.setF _ _ ?_ (by decide +kernel) | refine LX.setS ?_ rfl | refine LX.setA ?_ (by first | assumption | omega))) (by first | assumption | omega)) ?_
  rw [v45_is hcs D, if_pos ⟨by omega, by omega⟩]
  refine Ends.g (by unfold q45 q447; omega) ?_
  refine Ends.cvx l (by decide +kernel) (c_there98 l (by omega)) (fun h1 l1 _ _ ⟨_, e1⟩ => ?_) (fun x h1 l1 _ _ ⟨z, _⟩ => absurd z (by decide))
  subst e1
  refine Ends.eq (b6_8 (n := n) (by (repeat' first | assumption | refine LX.setF _ _ ?_ (by decide +kernel) | refine LX.setS ?_ rfl | refine LX.setA ?_ (by first | assumption | omega))) (by first | assumption | omega)) ?_
  rw [show v447 B h1 2 = H dn 2 from by unfold v447; exact hcs 2 (by decide)]
  refine Ends.g (by unfold q447; omega) ?_
  refine Ends.cv l1 (by decide +kernel) (c_stBegin l1 (by omega) S hdn htu) (fun h2 l2 _ _ _ ⟨_, x2, S2⟩ => ?_)
  refine Ends.eq (b6_24 (n := n) (by (repeat' first | assumption | refine LX.setF _ _ ?_ (by decide +kernel) | refine LX.setS ?_ rfl | refine LX.setA ?_ (by first | assumption | omega))) (by first | assumption | omega)) ?_
  refine Ends.cv l2 (by decide +kernel) (c_stSet l2 (by omega) S2 (k := 2) (by decide) (by omega)) (fun h3 l3 _ _ _ ⟨x3, S3⟩ => ?_)
  refine Ends.eq (b6_33 (n := n) (by (repeat' first | assumption | refine LX.setF _ _ ?_ (by decide +kernel) | refine LX.setS ?_ rfl | refine LX.setA ?_ (by first | assumption | omega))) (by first | assumption | omega)) ?_
  refine Ends.cv l3 (by decide +kernel) (c_stEnd l3 (by omega) S3 hdn) (fun h4 l4 _ _ _ ⟨_, x4, s', S4⟩ => ?_)
  refine Ends.eq (b6_40 (n := n) (by (repeat' first | assumption | refine LX.setF _ _ ?_ (by decide +kernel) | refine LX.setS ?_ rfl | refine LX.setA ?_ (by first | assumption | omega))) (by first | assumption | omega)) ?_
  exact Ends.sm ⟨_, _, rfl, rfl, (x2.tr x3).tr x4, s', S4⟩
theorem c_choose6n {k : Int} (l : LX B n h) (hd : 20 ≤ d) (hcs : ∀ z, z < 37368 → hv h (B + 2) z = H dn z) (D : DW (H dn) nv nc) (hk' : ¬ (0 ≤ k ∧ k < (nc : Int))) :
    Vtx 0 (cll PP (ev PP (gsF gv) B) d 6 [(2, rf (B + 0)), (0, k)] h) (fun _ _ => False) (ThX 31 h) := by
  refine Vtx.into (D := 19) hd (Nat.le_of_ble_eq_true rfl) rfl (fun d hd => ?_)
  refine Ends.eq (b6_0 (n := n) (by (repeat' first | assumption | refine LX.setF _ _ ?_ (by decide +kernel) | refine LX.setS ?_ rfl | refine LX.setA ?_ (by first | assumption | omega))) (by first | assumption | omega)) ?_
  rw [v45_is hcs D, if_neg hk']
  refine Ends.g (by unfold q45 q447; omega) ?_
  refine Ends.cvx l (by decide +kernel) (c_there98 l (by omega)) (fun h2 l2 _ _ ⟨z, _⟩ => absurd rfl z) (fun x h2 l2 _ _ ⟨_, w⟩ => ?_)
  exact Ends.th w.c rfl (Or.inr ⟨_, _, rfl, w⟩)
theorem c_undo101 (l : LX B n h) (hd : 12 ≤ d) (S : St B h H s dn tt tu mw) (ht : tt < 100) (htu : tu < 1000000) (hm : mw < 1000000) :
    Vt 0 (cll PP (ev PP (gsF gv) B) d 101 [(2, rf (B + 0))] h) (fun v h' => (dn = 0 ∧ v = 0 ∧ h' = h) ∨ (0 < dn ∧ v = 1 ∧ SX B h h' ∧ St B h' H s (dn - 1) tt (tu + 1) mw)) := by
  refine Vt.into (D := 11) hd (Nat.le_of_ble_eq_true rfl) rfl (fun d hd => ?_)
  refine Ends.eq (b101_0 (n := n) (by (repeat' first | assumption | refine LX.setF _ _ ?_ (by decide +kernel) | refine LX.setS ?_ rfl | refine LX.setA ?_ (by first | assumption | omega))) (by first | assumption | omega)) ?_
  refine Ends.ct l (by decide +kernel) (by decide) (c_stUndo l (by omega) S ht htu hm) (fun x h1 l1 _ _ _ r => ?_)
  refine Ends.eq (b101_7 (n := n) (by (repeat' first | assumption | refine LX.setF _ _ ?_ (by decide +kernel) | refine LX.setS ?_ rfl | refine LX.setA ?_ (by first | assumption | omega))) (by first | assumption | omega)) ?_
  exact Ends.g (by rcases r with ⟨_, e, _⟩ | ⟨_, e, _⟩ <;> rw [e] <;> simp) (Ends.sm ⟨_, _, rfl, r⟩)
theorem c_redo79 (l : LX B n h) (hd : 12 ≤ d) (S : St B h H s dn tt tu mw) (ht : tt < 100) (htu : tu < 1000000) (hm : mw < 1000000) :
    Vt 0 (cll PP (ev PP (gsF gv) B) d 79 [(2, rf (B + 0))] h) (fun v h' => (dn = tt ∧ v = 0 ∧ h' = h) ∨ (dn < tt ∧ v = 1 ∧ SX B h h' ∧ St B h' H s (dn + 1) tt (tu + 1) mw)) := by
  refine Vt.into (D := 11) hd (Nat.le_of_ble_eq_true rfl) rfl (fun d hd => ?_)
  refine Ends.eq (b79_0 (n := n) (by (repeat' first | assumption | refine LX.setF _ _ ?_ (by decide +kernel) | refine LX.setS ?_ rfl | refine LX.setA ?_ (by first | assumption | omega))) (by first | assumption | omega)) ?_
  refine Ends.ct l (by decide +kernel) (by decide) (c_stRedo l (by omega) S ht htu hm) (fun x h1 l1 _ _ _ r => ?_)
  refine Ends.eq (b79_7 (n := n) (by (repeat' first | assumption | refine LX.setF _ _ ?_ (by decide +kernel) | refine LX.setS ?_ rfl | refine LX.setA ?_ (by first | assumption | omega))) (by first | assumption | omega)) ?_
  exact Ends.g (by rcases r with ⟨_, e, _⟩ | ⟨_, e, _⟩ <;> rw [e] <;> simp) (Ends.sm ⟨_, _, rfl, r⟩)
end CHOOSE
