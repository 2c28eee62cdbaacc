/-! L3: the tape's end; configuration where it throws -/
section ENDS
variable {gv : Nat → Int} {B n d : Nat} {h : AH} {H : Nat → Nat → Int} {dn nv nc : Nat}
theorem c_config10n {k : Int} (l : LX B n h) (hd : 20 ≤ d) (hcs : ∀ z, z < 37368 → hv h (B + 2) z = H dn z) (D : DW (H dn) nv nc) (hk' : ¬ (0 ≤ k ∧ k < (nc : Int))) :
    Vtx 0 (cll PP (ev PP (gsF gv) B) d 10 [(2, rf (B + 0)), (0, k)] h) (fun _ _ => False) (ThX 27 h) := by
  refine Vtx.into (D := 19) hd (Nat.le_of_ble_eq_true rfl) rfl (fun d hd => ?_)
  refine Ends.eq (b10_0 (n := n) (by (repeat' first | assumption | refine LX.setF _ _ ?_ (by decide +kernel) | refine LX.setS ?_ rfl | refine LX.setA ?_ (by first | assumption | omega))) (by first | assumption | omega)) ?_
  rw [v45_is hcs D, if_neg hk']
  refine Ends.g (by unfold q45 q447; omega) ?_
  refine Ends.cvx l (by decide +kernel) (c_need64 l (by omega)) (fun h2 l2 _ _ ⟨z, _⟩ => absurd rfl z) (fun x h2 l2 _ _ ⟨_, w⟩ => ?_)
  exact Ends.th w.c rfl (Or.inr ⟨_, _, rfl, w⟩)
theorem c_config10f {k : Nat} (l : LX B n h) (hd : 20 ≤ d) (hcs : ∀ z, z < 37368 → hv h (B + 2) z = H dn z) (D : DW (H dn) nv nc) (hk' : k < nc) (h4 : nc = 4) :
    Vtx 0 (cll PP (ev PP (gsF gv) B) d 10 [(2, rf (B + 0)), (0, (k : Int))] h) (fun _ _ => False) (ThX 28 h) := by
  refine Vtx.into (D := 19) hd (Nat.le_of_ble_eq_true rfl) rfl (fun d hd => ?_)
  refine Ends.eq (b10_0 (n := n) (by (repeat' first | assumption | refine LX.setF _ _ ?_ (by decide +kernel) | refine LX.setS ?_ rfl | refine LX.setA ?_ (by first | assumption | omega))) (by first | assumption | omega)) ?_
  rw [v45_is hcs D, if_pos ⟨by omega, by omega⟩]
  refine Ends.g (by unfold q45 q447; omega) ?_
  refine Ends.cvx l (by decide +kernel) (c_need64 l (by omega)) (fun h1 l1 _ _ ⟨_, e1⟩ => ?_) (fun x h1 l1 _ _ ⟨z, _⟩ => absurd z (by decide))
  subst e1
  refine Ends.eq (b10_8 (n := n) (by (repeat' first | assumption | refine LX.setF _ _ ?_ (by decide +kernel) | refine LX.setS ?_ rfl | refine LX.setA ?_ (by first | assumption | omega))) (by first | assumption | omega)) ?_
  rw [show v447 B h1 1 = (nc : Int) from by unfold v447; exact (hcs 1 (by decide)).trans D.2.2.1, tst3, decide_eq_false (show ¬ (nc : Int) < 4 by omega)]
  refine Ends.g (by unfold q447; omega) ?_
  refine Ends.cvx l1 (by decide +kernel) (c_state93 l1 (by omega)) (fun h2 l2 _ _ ⟨z, _⟩ => absurd rfl z) (fun x h2 l2 _ _ ⟨_, w⟩ => ?_)
  exact Ends.th w.c rfl (Or.inr ⟨_, _, rfl, w⟩)
theorem c_end26 {x : Int} {p : Nat} (l : LX B n h) (hd : 12 ≤ d) (h15 : hv h (B + 0) 15 = (p : Int)) :
    Vtx 0 (cll PP (ev PP (gsF gv) B) d 26 [(2, rf (B + 0)), (0, x)] h) (fun v h' => (0 ≤ x ∧ x ≤ (p : Int)) ∧ v = x ∧ h' = hset h (B + 0) 15 x) (fun y h' => ¬ (0 ≤ x ∧ x ≤ (p : Int)) ∧ ThX 27 h y h') := by
  refine Vtx.into (D := 11) hd (Nat.le_of_ble_eq_true rfl) rfl (fun d hd => ?_)
  refine Ends.eq (b26_0 (n := n) (by (repeat' first | assumption | refine LX.setF _ _ ?_ (by decide +kernel) | refine LX.setS ?_ rfl | refine LX.setA ?_ (by first | assumption | omega))) (by first | assumption | omega)) ?_
  rw [h15, v42_in]
  by_cases e : 0 ≤ x ∧ x ≤ (p : Int)
  · rw [if_pos e]
    refine Ends.cvx l (by decide +kernel) (c_need64 l (by omega)) (fun h1 l1 _ _ ⟨_, e1⟩ => ?_) (fun x h1 l1 _ _ ⟨z, _⟩ => absurd z (by decide))
    subst e1
    refine Ends.eq (b26_12 (n := n) (by (repeat' first | assumption | refine LX.setF _ _ ?_ (by decide +kernel) | refine LX.setS ?_ rfl | refine LX.setA ?_ (by first | assumption | omega))) (by first | assumption | omega)) ?_
    exact Ends.sm (Or.inl ⟨_, _, rfl, e, rfl, rfl⟩)
  · rw [if_neg e]
    refine Ends.cvx l (by decide +kernel) (c_need64 l (by omega)) (fun h1 l1 _ _ ⟨z, _⟩ => absurd rfl z) (fun x h1 l1 _ _ ⟨_, w⟩ => ?_)
    exact Ends.th w.c rfl (Or.inr ⟨_, _, rfl, e, w⟩)
theorem c_end608 {x : Int} {p : Nat} (l : LX B n h) (hd : 12 ≤ d) (h2 : hv h (B + 149) 2 = (p : Int)) :
    Vt 0 (cll PP (ev PP (gsF gv) B) d 608 [(2, rf (B + 149)), (0, x)] h) (fun v h' => ((0 ≤ x ∧ x ≤ (p : Int)) ∧ v = x ∧ h' = hset (hset h (B + 149) 0 0) (B + 149) 2 x) ∨ (¬ (0 ≤ x ∧ x ≤ (p : Int)) ∧ v = 0 ∧ h' = hset h (B + 149) 0 1)) := by
  refine Vt.into (D := 11) hd (Nat.le_of_ble_eq_true rfl) rfl (fun d hd => ?_)
  refine Ends.eq (b608_0 (n := n) (by (repeat' first | assumption | refine LX.setF _ _ ?_ (by decide +kernel) | refine LX.setS ?_ rfl | refine LX.setA ?_ (by first | assumption | omega))) (by first | assumption | omega)) ?_
  rw [h2, show (cond (tst 2 x 0) (1 : Int) (cond (tst 5 x (p : Int)) 0 1)) = if 0 ≤ x ∧ x ≤ (p : Int) then 0 else 1 from by
    rw [tst2, tst5]
    by_cases z : x < 0
    · rw [decide_eq_true z, if_neg (by omega)]; rfl
    · by_cases z2 : (p : Int) < x
      · rw [decide_eq_false z, decide_eq_true z2, if_neg (by omega)]; rfl
      · rw [decide_eq_false z, decide_eq_false z2, if_pos ⟨by omega, by omega⟩]; rfl]
  by_cases e : 0 ≤ x ∧ x ≤ (p : Int)
  · rw [if_pos e]
    refine Ends.ct l (by decide +kernel) (by decide) (c_fails l (by omega) (x := 0)) (fun y h1 l1 _ _ _ ⟨ey, e1⟩ => ?_)
    rw [if_neg (by decide)] at ey
    rw [ey]
    refine Ends.eq (b608_21 (n := n) (by (repeat' first | assumption | refine LX.setF _ _ ?_ (by decide +kernel) | refine LX.setS ?_ rfl | refine LX.setA ?_ (by first | assumption | omega))) (by first | assumption | omega)) ?_
    exact Ends.b0 (fun _ => Ends.sm ⟨_, _, rfl, Or.inl ⟨e, rfl, by rw [e1]⟩⟩) (fun z => absurd rfl z)
  · rw [if_neg e]
    refine Ends.ct l (by decide +kernel) (by decide) (c_fails l (by omega) (x := 1)) (fun y h1 l1 _ _ _ ⟨ey, e1⟩ => ?_)
    rw [if_pos (by decide)] at ey
    rw [ey]
    refine Ends.eq (b608_21 (n := n) (by (repeat' first | assumption | refine LX.setF _ _ ?_ (by decide +kernel) | refine LX.setS ?_ rfl | refine LX.setA ?_ (by first | assumption | omega))) (by first | assumption | omega)) ?_
    exact Ends.b0 (fun z => absurd z (by decide)) (fun _ => Ends.sm ⟨_, _, rfl, Or.inr ⟨e, rfl, e1⟩⟩)
end ENDS
