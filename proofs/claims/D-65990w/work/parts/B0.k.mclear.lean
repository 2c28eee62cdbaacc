/-! L3: the model's hollows (called), clearance; bodies dropped on both sides -/
section MCLR
variable {gv : Nat → Int} {B n d : Nat} {h : AH} {is : Nat → Bool} {S : Nat → Nat → Bool} {o p : Int}
theorem c_hollows675 (l : LX B n h) (hd : 18 ≤ d) (hn0 : 0 < n) (hn : n ≤ 52) (m : TbM B h) (b : BdM B n h is S) :
    Vt 0 (cll PP (ev PP (gsF gv) B) d 675 [(2, rf (B + 149)), (0, o)] h) (fun x h' => (thS is o = false ∧ MdA B h 1 x h') ∨ (thS is o = true ∧ (∃ (k : Nat) (U : Nat → Bool), x = (k : Int) ∧ (∀ y, y < gN n → (U y = true ↔ S (rwS o) y = false ∧ ¬ bdR n (fun g => !S (rwS o) g) y)) ∧ NC n (fun g => !S (rwS o) g) U k) ∧ Agr (hoW B n) (hset h (B + 149) 0 0) h')) := by
  refine Vt.into (D := 17) hd (Nat.le_of_ble_eq_true rfl) rfl (fun d hd => ?_)
  refine Ends.eq (b675_0 (n := n) (by (repeat' first | assumption | refine LX.setF _ _ ?_ (by decide +kernel) | refine LX.setS ?_ rfl | refine LX.setA ?_ (by first | assumption | omega))) (by first | assumption | omega)) ?_
  obtain ⟨v1, v2⟩ := v765_is (o := o) (fun i hi => (b.1 i hi).1)
  refine Ends.g v1 ?_
  rw [v2]
  cases hs : thS is o
  · refine Ends.mbad l (by omega) (c := 1) (by decide) rfl ?_
    have l2 : LX B n (hset h (B + 149) 0 ((1 : Nat) : Int)) := LX.setF 149 0 l (by decide +kernel)
    refine Ends.eq (b675_17 (n := n) (by (repeat' first | assumption | refine LX.setF _ _ ?_ (by decide +kernel) | refine LX.setS ?_ rfl | refine LX.setA ?_ (by first | assumption | omega))) (by first | assumption | omega)) ?_
    exact Ends.b0 (fun z => absurd z (by decide)) (fun _ => Ends.sm ⟨_, _, rfl, Or.inl ⟨rfl, rfl, rfl⟩⟩)
  · refine Ends.mok l (by omega) rfl ?_
    have l2 : LX B n (hset h (B + 149) 0 0) := LX.setF 149 0 l (by decide +kernel)
    obtain ⟨s1, s2⟩ := (b.fset 0 0).sol hs
    have m2 : TbM B (hset h (B + 149) 0 0) := m.agr (W := fun c _ => c = B + 149) (Agr.rf.set rfl) (fun c k z1 z2 z3 z => by omega)
    refine Ends.eq (b675_17 (n := n) (by (repeat' first | assumption | refine LX.setF _ _ ?_ (by decide +kernel) | refine LX.setS ?_ rfl | refine LX.setA ?_ (by first | assumption | omega))) (by first | assumption | omega)) ?_
    rw [v806_is hs]
    refine Ends.b0 (fun _ => ?_) (fun z => absurd rfl z)
    refine Ends.ct l2 (by decide +kernel) (by decide) (c_hollow l2 (by omega) hn0 hn (by omega) m2 s1) (fun x h3 l3 _ _ _ ⟨e3, k, U, ek, m16, sp, N⟩ => ?_)
    refine Ends.eq (b675_32 (n := n) (by (repeat' first | assumption | refine LX.setF _ _ ?_ (by decide +kernel) | refine LX.setS ?_ rfl | refine LX.setA ?_ (by first | assumption | omega))) (by first | assumption | omega)) ?_
    exact Ends.sm ⟨_, _, rfl, Or.inr ⟨rfl, ⟨k, U, ek, sp, N⟩, e3⟩⟩
theorem grk_none {T : Nat → Bool} (e : ∀ g, g < gN n → T g = false) : ∀ k g, g < gN n → grk n T k g = false
  | 0, g, hg => e g hg
  | k + 1, g, hg => by
    have ih := grk_none e k
    cases z : grk n T (k + 1) g
    · rfl
    · obtain ⟨g0, h0, h1, _⟩ := (gr1_near hg).mp z
      rw [ih g0 h0] at h1
      exact absurd h1 (by decide)
theorem c_clearance571 (l : LX B n h) (hd : 18 ≤ d) (hn : n ≤ 52) (b : BdM B n h is S) :
    Vt 0 (cll PP (ev PP (gsF gv) B) d 571 [(2, rf (B + 149)), (0, o), (0, p)] h) (fun x h' => (¬ (thS is o = true ∧ thS is p = true) ∧ MdA B h 1 x h') ∨ ((thS is o = true ∧ thS is p = true) ∧ clrS n (S (rwS o)) (S (rwS p)) x ∧ Agr (hoW B n) (hset h (B + 149) 0 0) h')) := by
  refine Vt.inq (D := 17) hd (Nat.le_of_ble_eq_true rfl) rfl (fun d hd Q K => ?_)
  refine Ends.eq (b571_0 (n := n) (by (repeat' first | assumption | refine LX.setF _ _ ?_ (by decide +kernel) | refine LX.setS ?_ rfl | refine LX.setA ?_ (by first | assumption | omega))) (by first | assumption | omega)) ?_
  obtain ⟨v1, v2⟩ := v765_is (o := o) (fun i hi => (b.1 i hi).1)
  obtain ⟨u1, u2⟩ := v765_is (o := p) (fun i hi => (b.1 i hi).1)
  refine Ends.g v1 (Ends.g (cT u1) ?_)
  rw [v2, u2, two_c]
  by_cases hs : thS is o = true ∧ thS is p = true
  rotate_left
  · rw [if_neg hs]
    refine Ends.mbad l (by omega) (c := 1) (by decide) rfl ?_
    have l2 : LX B n (hset h (B + 149) 0 ((1 : Nat) : Int)) := LX.setF 149 0 l (by decide +kernel)
    refine Ends.eq (b571_25 (n := n) (by (repeat' first | assumption | refine LX.setF _ _ ?_ (by decide +kernel) | refine LX.setS ?_ rfl | refine LX.setA ?_ (by first | assumption | omega))) (by first | assumption | omega)) ?_
    exact Ends.b0 (fun z => absurd z (by decide)) (fun _ => Ends.sm (K _ _ (Or.inl ⟨hs, rfl, rfl⟩)))
  rw [if_pos hs]
  refine Ends.mok l (by omega) rfl ?_
  have l2 : LX B n (hset h (B + 149) 0 0) := LX.setF 149 0 l (by decide +kernel)
  obtain ⟨s1, s2⟩ := (b.fset 0 0).sol hs.1
  obtain ⟨t1, t2⟩ := (b.fset 0 0).sol hs.2
  refine Ends.eq (b571_25 (n := n) (by (repeat' first | assumption | refine LX.setF _ _ ?_ (by decide +kernel) | refine LX.setS ?_ rfl | refine LX.setA ?_ (by first | assumption | omega))) (by first | assumption | omega)) ?_
  rw [v806_is hs.1]
  refine Ends.b0 (fun _ => ?_) (fun z => absurd rfl z)
  refine Ends.ct l2 (by decide +kernel) (by decide) (c_isEmptyM l2 (by omega) hn (by omega) s1) (fun x h3 l3 _ _ _ ⟨e3, ex⟩ => ?_)
  subst e3
  refine Ends.eq (b571_38 (n := n) (by (repeat' first | assumption | refine LX.setF _ _ ?_ (by decide +kernel) | refine LX.setS ?_ rfl | refine LX.setA ?_ (by first | assumption | omega))) (by first | assumption | omega)) ?_
  have out : (∀ j, j ≤ n → ¬ mtS n (grk n (S (rwS o)) j) (S (rwS p))) → Ends (ev PP (gsF gv) B d 571 52 [(2, rf (B + 149)), (0, o), (0, p), (9, 0)] [] (hset h (B + 149) 0 0)) Q := fun z => by
    refine Ends.eq (b571_52 (n := n) (by (repeat' first | assumption | refine LX.setF _ _ ?_ (by decide +kernel) | refine LX.setS ?_ rfl | refine LX.setA ?_ (by first | assumption | omega))) (by first | assumption | omega)) ?_
    exact Ends.sm (K _ _ (Or.inr ⟨hs, Or.inr ⟨rfl, z⟩, Agr.rf⟩))
  rcases ex with ⟨rfl, ex⟩ | ⟨rfl, ex⟩
  · exact Ends.b1 (fun _ => out (fun j _ ⟨g, hg, e⟩ => by rw [grk_none ex j g hg] at e; exact absurd e Bool.false_ne_true)) (fun z => absurd z (by decide))
  refine Ends.b1 (fun z => absurd rfl z) (fun _ => ?_)
  rw [v806_is hs.2]
  refine Ends.ct l3 (by decide +kernel) (by decide) (c_isEmptyM l3 (by omega) hn (by omega) t1) (fun x h4 l4 _ _ _ ⟨e4, ex2⟩ => ?_)
  subst e4
  refine Ends.eq (b571_49 (n := n) (by (repeat' first | assumption | refine LX.setF _ _ ?_ (by decide +kernel) | refine LX.setS ?_ rfl | refine LX.setA ?_ (by first | assumption | omega))) (by first | assumption | omega)) ?_
  rcases ex2 with ⟨rfl, ex2⟩ | ⟨rfl, ex2⟩
  · exact Ends.b0 (fun z => absurd z (by decide)) (fun _ => out (fun j _ ⟨g, hg, e⟩ => by rw [ex2 g hg, Bool.and_false] at e; exact absurd e Bool.false_ne_true))
  refine Ends.b0 (fun _ => ?_) (fun z => absurd rfl z)
  rw [v806_is hs.1]
  refine Ends.cv l4 (by decide +kernel) (c_copyM (t := 16) l4 (by omega) hn (by omega) (by decide) s1) (fun h5 l5 _ _ _ ⟨g5, m5⟩ => ?_)
  refine Ends.eq (b571_64 (n := n) (by (repeat' first | assumption | refine LX.setF _ _ ?_ (by decide +kernel) | refine LX.setS ?_ rfl | refine LX.setA ?_ (by first | assumption | omega))) (by first | assumption | omega)) ?_
  have t5 : MB B n h5 (rwS p) (S (rwS p)) := t1.row g5 (by omega)
  have key : ∀ (r i : Nat) (q : AH) (R : Nat → Bool), i + r = n → LX B n q → Agr (hoW B n) (hset h (B + 149) 0 0) q → MB B n q 16 R → (∀ g, g < gN n → R g = grk n (S (rwS o)) i g) → MB B n q (rwS p) (S (rwS p)) → (∀ j, j < i → ¬ mtS n (grk n (S (rwS o)) j) (S (rwS p))) → Ends (ev PP (gsF gv) B d 571 66 [(2, rf (B + 149)), (0, o), (0, p), (0, (i : Int))] [] q) Q := by
    intro r
    induction r with
    | zero =>
      intro i q R hi lq gq mq eR tq nm
      refine Ends.eq (b571_66 (n := n) (by (repeat' first | assumption | refine LX.setF _ _ ?_ (by decide +kernel) | refine LX.setS ?_ rfl | refine LX.setA ?_ (by first | assumption | omega))) (by first | assumption | omega)) ?_
      rw [v806_is hs.2]
      refine Ends.ct lq (by decide +kernel) (by decide) (c_touches (s := 16) lq (by omega) hn (by decide) (by omega) mq tq) (fun x q2 l6 _ _ _ ⟨e6, ex⟩ => ?_)
      subst e6
      refine Ends.eq (b571_76 (n := n) (by (repeat' first | assumption | refine LX.setF _ _ ?_ (by decide +kernel) | refine LX.setS ?_ rfl | refine LX.setA ?_ (by first | assumption | omega))) (by first | assumption | omega)) ?_
      rcases ex with ⟨rfl, ex⟩ | ⟨rfl, g, hg, ex⟩
      · refine Ends.b1 (fun z => absurd rfl z) (fun _ => Ends.b1 (fun z => absurd (by omega) z) (fun _ => ?_))
        refine Ends.sm (K _ _ (Or.inr ⟨hs, Or.inr ⟨rfl, fun j hj => ?_⟩, gq⟩))
        by_cases z : j = i
        · rw [z]
          rintro ⟨g, hg, e⟩
          rw [← eR g hg, ex g hg] at e
          exact absurd e (by decide)
        · exact nm j (by omega)
      · refine Ends.b1 (fun _ => ?_) (fun z => absurd z (by decide))
        exact Ends.sm (K _ _ (Or.inr ⟨hs, Or.inl ⟨i, rfl, by omega, ⟨g, hg, by rw [← eR g hg]; exact ex⟩, nm⟩, gq⟩))
    | succ r ih =>
      intro i q R hi lq gq mq eR tq nm
      refine Ends.eq (b571_66 (n := n) (by (repeat' first | assumption | refine LX.setF _ _ ?_ (by decide +kernel) | refine LX.setS ?_ rfl | refine LX.setA ?_ (by first | assumption | omega))) (by first | assumption | omega)) ?_
      rw [v806_is hs.2]
      refine Ends.ct lq (by decide +kernel) (by decide) (c_touches (s := 16) lq (by omega) hn (by decide) (by omega) mq tq) (fun x q2 l6 _ _ _ ⟨e6, ex⟩ => ?_)
      subst e6
      refine Ends.eq (b571_76 (n := n) (by (repeat' first | assumption | refine LX.setF _ _ ?_ (by decide +kernel) | refine LX.setS ?_ rfl | refine LX.setA ?_ (by first | assumption | omega))) (by first | assumption | omega)) ?_
      rcases ex with ⟨rfl, ex⟩ | ⟨rfl, g, hg, ex⟩
      · refine Ends.b1 (fun z => absurd rfl z) (fun _ => Ends.b1 (fun _ => ?_) (fun z => by omega))
        refine Ends.cv l6 (by decide +kernel) (c_growM (s := 16) (t := 13) (r := 1) l6 (by omega) hn (by decide) (by decide) (by decide) mq (by decide)) (fun q3 l7 _ _ _ ⟨g7, R7, m7, r7⟩ => ?_)
        refine Ends.eq (b571_98 (n := n) (by (repeat' first | assumption | refine LX.setF _ _ ?_ (by decide +kernel) | refine LX.setS ?_ rfl | refine LX.setA ?_ (by first | assumption | omega))) (by first | assumption | omega)) ?_
        refine Ends.cv l7 (by decide +kernel) (c_copyM (s := 13) (t := 16) l7 (by omega) hn (by decide) (by decide) m7) (fun q4 l8 _ _ _ ⟨g8, m8⟩ => ?_)
        refine Ends.eq (b571_106 (n := n) (by (repeat' first | assumption | refine LX.setF _ _ ?_ (by decide +kernel) | refine LX.setS ?_ rfl | refine LX.setA ?_ (by first | assumption | omega))) (by first | assumption | omega)) ?_
        rw [w_succ (by omega)]
        have tq3 : MB B n q3 (rwS p) (S (rwS p)) := tq.agr g7 (fun k hk z => wto3_row hk (by omega) (by omega) (by omega) z)
        refine ih (i + 1) q4 R7 (by omega) l8 ((gq.tr g7 (fun c k z => ?_)).tr g8 (fun c k z => Or.inr z)) m8 (fun g hg => ?_) (tq3.row g8 (by omega)) (fun j hj => ?_)
        · rcases z with z | z | z
          · exact Or.inl (Or.inl z)
          · exact Or.inl (Or.inr (Or.inl z))
          · exact Or.inl (Or.inr (Or.inr (Or.inl z)))
        · have e1 := (r7 g hg).trans (gr1_near (S := R) hg).symm
          have e2 := Bool.eq_iff_iff.mpr e1
          rw [e2]
          exact gr1_congr eR hg
        · by_cases z : j = i
          · rw [z]
            rintro ⟨g, hg, e⟩
            rw [← eR g hg, ex g hg] at e
            exact absurd e (by decide)
          · exact nm j (by omega)
      · refine Ends.b1 (fun _ => ?_) (fun z => absurd z (by decide))
        exact Ends.sm (K _ _ (Or.inr ⟨hs, Or.inl ⟨i, rfl, by omega, ⟨g, hg, by rw [← eR g hg]; exact ex⟩, nm⟩, gq⟩))
  exact key n 0 h5 _ (by omega) l5 (g5.sub (fun c k z => Or.inr z)) m5 (fun g _ => rfl) t5 (fun j hj => absurd hj (by omega))
end MCLR
section DROPB
variable {gv : Nat → Int} {B n d : Nat} {h : AH} {is : Nat → Bool} {cl : Nat → Nat} {S : Nat → Nat → Bool} {o : Int} {pl : Nat}
theorem c_has111 (l : LX B n h) (hd : 10 ≤ d) (e3 : hv h (B + 118) 3 = (pl : Int)) (hp : pl ≤ 12) : Vt 0 (cll PP (ev PP (gsF gv) B) d 111 [(2, rf (B + 118)), (0, o)] h) (fun x h' => h' = h ∧ ((x = 1 ∧ ∃ i, i < pl ∧ hv h (B + 119) i = o) ∨ (x = 0 ∧ ∀ i, i < pl → hv h (B + 119) i ≠ o))) := by
  refine Vt.into (D := 9) hd (Nat.le_of_ble_eq_true rfl) rfl (fun d hd => ?_)
  refine Ends.eq (b111_0 (n := n) (by (repeat' first | assumption | refine LX.setF _ _ ?_ (by decide +kernel) | refine LX.setS ?_ rfl | refine LX.setA ?_ (by first | assumption | omega))) (by first | assumption | omega)) ?_
  have key : ∀ (r i : Nat), i + r = pl → (∀ j, j < i → hv h (B + 119) j ≠ o) → Ends (ev PP (gsF gv) B d 111 2 [(2, rf (B + 118)), (0, o), (0, (i : Int))] [] h) (fun r => ∃ x h', r = ((0, (0, x)), h') ∧ h' = h ∧ ((x = 1 ∧ ∃ i, i < pl ∧ hv h (B + 119) i = o) ∨ (x = 0 ∧ ∀ i, i < pl → hv h (B + 119) i ≠ o))) := by
    intro r
    induction r with
    | zero =>
      intro i hi nm
      refine Ends.eq (b111_2 (n := n) (by (repeat' first | assumption | refine LX.setF _ _ ?_ (by decide +kernel) | refine LX.setS ?_ rfl | refine LX.setA ?_ (by first | assumption | omega))) (by first | assumption | omega)) ?_
      rw [e3]
      exact Ends.b3 (fun _ => Ends.sm ⟨_, _, rfl, rfl, Or.inr ⟨rfl, fun j hj => nm j (by omega)⟩⟩) (fun z => by omega)
    | succ r ih =>
      intro i hi nm
      refine Ends.eq (b111_2 (n := n) (by (repeat' first | assumption | refine LX.setF _ _ ?_ (by decide +kernel) | refine LX.setS ?_ rfl | refine LX.setA ?_ (by first | assumption | omega))) (by first | assumption | omega)) ?_
      rw [e3, tn]
      refine Ends.b3 (fun z => by omega) (fun _ => Ends.g ⟨by omega, by omega⟩ ?_)
      refine Ends.b1 (fun z => ?_) (fun z => Ends.sm ⟨_, _, rfl, rfl, Or.inl ⟨rfl, i, by omega, z⟩⟩)
      rw [w_succ (by omega)]
      refine ih (i + 1) (by omega) (fun j hj => ?_)
      by_cases y : j = i
      · rw [y]; exact z
      · exact nm j (by omega)
  exact key pl 0 (by omega) (fun j hj => absurd hj (by omega))
/-- may body o be dropped -/
def drB (is : Nat → Bool) (o : Int) : Bool := decide (0 ≤ o ∧ o < 10) && is o.toNat
theorem c_dropBody23 (l : LX B n h) (hd : 14 ≤ d) (b : ∀ i, i < 10 → hv h (B + 28) i = (if is i = true then 1 else 0)) (e3 : hv h (B + 118) 3 = (pl : Int)) (hp : pl ≤ 12) : Vt 0 (cll PP (ev PP (gsF gv) B) d 23 [(2, rf (B + 0)), (0, o)] h) (fun x h' => (x = 1 ∧ drB is o = true ∧ (∀ i, i < pl → hv h (B + 119) i ≠ o) ∧ h' = hset h (B + 28) o.toNat 0) ∨ (x = 0 ∧ ¬ (drB is o = true ∧ ∀ i, i < pl → hv h (B + 119) i ≠ o) ∧ h' = h)) := by
  refine Vt.into (D := 13) hd (Nat.le_of_ble_eq_true rfl) rfl (fun d hd => ?_)
  refine Ends.eq (b23_0 (n := n) (by (repeat' first | assumption | refine LX.setF _ _ ?_ (by decide +kernel) | refine LX.setS ?_ rfl | refine LX.setA ?_ (by first | assumption | omega))) (by first | assumption | omega)) ?_
  refine Ends.g q44_ok ?_
  rw [v44_is b]
  by_cases hs : drB is o = true
  · refine Ends.b0 (fun z => ?_) (fun _ => ?_)
    · unfold drB at hs; rw [hs] at z; exact absurd z (by decide)
    refine Ends.ct l (by decide +kernel) (by decide) (c_has111 l (by omega) e3 hp) (fun x h1 l1 _ _ _ ⟨e1, ex⟩ => ?_)
    subst e1
    refine Ends.eq (b23_16 (n := n) (by (repeat' first | assumption | refine LX.setF _ _ ?_ (by decide +kernel) | refine LX.setS ?_ rfl | refine LX.setA ?_ (by first | assumption | omega))) (by first | assumption | omega)) ?_
    have hr : 0 ≤ o ∧ o < 10 := by unfold drB at hs; rw [Bool.and_eq_true, decide_eq_true_eq] at hs; exact hs.1
    rcases ex with ⟨rfl, i, hi, ex⟩ | ⟨rfl, ex⟩
    · refine Ends.b0 (fun z => absurd z (by decide)) (fun _ => ?_)
      refine Ends.eq (b23_19 (n := n) (by (repeat' first | assumption | refine LX.setF _ _ ?_ (by decide +kernel) | refine LX.setS ?_ rfl | refine LX.setA ?_ (by first | assumption | omega))) (by first | assumption | omega)) ?_
      exact Ends.sm ⟨_, _, rfl, Or.inr ⟨rfl, fun z => z.2 i hi ex, rfl⟩⟩
    · exact Ends.b0 (fun _ => Ends.g hr (Ends.sm ⟨_, _, rfl, Or.inl ⟨rfl, hs, ex, rfl⟩⟩)) (fun z => absurd rfl z)
  · refine Ends.b0 (fun _ => ?_) (fun z => ?_)
    · refine Ends.eq (b23_19 (n := n) (by (repeat' first | assumption | refine LX.setF _ _ ?_ (by decide +kernel) | refine LX.setS ?_ rfl | refine LX.setA ?_ (by first | assumption | omega))) (by first | assumption | omega)) ?_
      exact Ends.sm ⟨_, _, rfl, Or.inr ⟨rfl, fun z => hs z.1, rfl⟩⟩
    · unfold drB at hs
      rw [if_neg hs] at z
      exact absurd rfl z
theorem c_dropBody599 (l : LX B n h) (hd : 12 ≤ d) (b : ∀ i, i < 10 → hv h (B + 193) i = (if is i = true then 1 else 0)) (e3 : hv h (B + 149) 120 = (pl : Int)) (hp : pl ≤ 12) : Vt 0 (cll PP (ev PP (gsF gv) B) d 599 [(2, rf (B + 149)), (0, o)] h) (fun x h' => (x = 1 ∧ drB is o = true ∧ (∀ i, i < pl → hv h (B + 205) i ≠ o) ∧ h' = hset (hset (hset h (B + 149) 0 0) (B + 193) o.toNat 0) (B + 149) 86 (-1)) ∨ (x = 0 ∧ ¬ (drB is o = true ∧ ∀ i, i < pl → hv h (B + 205) i ≠ o) ∧ h' = hset h (B + 149) 0 0)) := by
  refine Vt.into (D := 11) hd (Nat.le_of_ble_eq_true rfl) rfl (fun d hd => ?_)
  have l2 : LX B n (hset h (B + 149) 0 0) := LX.setF 149 0 l (by decide +kernel)
  refine Ends.eq (b599_0 (n := n) (by (repeat' first | assumption | refine LX.setF _ _ ?_ (by decide +kernel) | refine LX.setS ?_ rfl | refine LX.setA ?_ (by first | assumption | omega))) (by first | assumption | omega)) ?_
  obtain ⟨v1, v2⟩ := v758_is (B := B) (h := hset h (B + 149) 0 0) (o := o) (fun i hi => by rw [hv_na (show B + 193 ≠ B + 149 by omega)]; exact b i hi)
  refine Ends.g v1 ?_
  rw [v2]
  by_cases hs : drB is o = true
  · refine Ends.b0 (fun _ => ?_) (fun z => ?_)
    rotate_left
    · unfold drB at hs; rw [if_pos hs] at z; exact absurd rfl z
    have hr : 0 ≤ o ∧ o < 10 := by unfold drB at hs; rw [Bool.and_eq_true, decide_eq_true_eq] at hs; exact hs.1
    have p2 : hv (hset h (B + 149) 0 0) (B + 149) 120 = (pl : Int) := by rw [hv_set_ne (by omega)]; exact e3
    have key : ∀ (r i : Nat), i + r = pl → (∀ j, j < i → hv h (B + 205) j ≠ o) → Ends (ev PP (gsF gv) B d 599 17 [(2, rf (B + 149)), (0, o), (0, (i : Int))] [] (hset h (B + 149) 0 0)) (fun r => ∃ x h', r = ((0, (0, x)), h') ∧ ((x = 1 ∧ drB is o = true ∧ (∀ i, i < pl → hv h (B + 205) i ≠ o) ∧ h' = hset (hset (hset h (B + 149) 0 0) (B + 193) o.toNat 0) (B + 149) 86 (-1)) ∨ (x = 0 ∧ ¬ (drB is o = true ∧ ∀ i, i < pl → hv h (B + 205) i ≠ o) ∧ h' = hset h (B + 149) 0 0))) := by
      intro r
      induction r with
      | zero =>
        intro i hi nm
        refine Ends.eq (b599_17 (n := n) (by (repeat' first | assumption | refine LX.setF _ _ ?_ (by decide +kernel) | refine LX.setS ?_ rfl | refine LX.setA ?_ (by first | assumption | omega))) (by first | assumption | omega)) ?_
        rw [p2]
        exact Ends.b3 (fun _ => Ends.g hr (Ends.sm ⟨_, _, rfl, Or.inl ⟨rfl, hs, fun j hj => nm j (by omega), rfl⟩⟩)) (fun z => by omega)
      | succ r ih =>
        intro i hi nm
        refine Ends.eq (b599_17 (n := n) (by (repeat' first | assumption | refine LX.setF _ _ ?_ (by decide +kernel) | refine LX.setS ?_ rfl | refine LX.setA ?_ (by first | assumption | omega))) (by first | assumption | omega)) ?_
        rw [p2, tn, hv_na (show B + 205 ≠ B + 149 by omega)]
        refine Ends.b3 (fun z => by omega) (fun _ => Ends.g ⟨by omega, by omega⟩ ?_)
        refine Ends.b1 (fun z => ?_) (fun z => Ends.sm ⟨_, _, rfl, Or.inr ⟨rfl, fun y => y.2 i (by omega) z, rfl⟩⟩)
        rw [w_succ (by omega)]
        refine ih (i + 1) (by omega) (fun j hj => ?_)
        by_cases y : j = i
        · rw [y]; exact z
        · exact nm j (by omega)
    exact key pl 0 (by omega) (fun j hj => absurd hj (by omega))
  · refine Ends.b0 (fun z => ?_) (fun _ => Ends.sm ⟨_, _, rfl, Or.inr ⟨rfl, fun z => hs z.1, rfl⟩⟩)
    unfold drB at hs
    rw [if_neg hs] at z
    exact absurd z (by decide)
end DROPB
