/-! L3: the model's bodies -/
section MBODY
variable {gv : Nat → Int} {B n d : Nat} {h : AH} {is : Nat → Bool} {S : Nat → Nat → Bool} {o p : Int} {T : Nat → Bool}
theorem BdM.fset (b : BdM B n h is S) (k : Nat) (v : Int) : BdM B n (hset h (B + 149) k v) is S :=
  ⟨fun i hi => ⟨by rw [hv_na (by omega)]; exact (b.1 i hi).1, fun e => ((b.1 i hi).2 e).fset k v⟩, b.2.fset k v⟩
theorem BdM.agr {W : Nat → Nat → Prop} {t : AH} (b : BdM B n h is S) (g : Agr W h t) (h1 : ∀ k, ¬ W (B + 193) k) (h2 : ∀ s k, s < 11 → k < wN n → ¬ W (B + 236) (wN n * s + k)) : BdM B n t is S :=
  ⟨fun i hi => ⟨by rw [g.at _ _ (h1 i)]; exact (b.1 i hi).1, fun e => ((b.1 i hi).2 e).agr g (fun k hk => h2 i k (by omega) hk)⟩, b.2.agr g (fun k hk => h2 10 k (by decide) hk)⟩
theorem ns_0 {s : Bool} (e : s = true) : cond (tst 0 (if s = true then (0 : Int) else 1) 0) (0 : Int) 1 = 0 := by rw [e]; rfl
theorem ns_1 {s : Bool} (e : s = false) : cond (tst 0 (if s = true then (0 : Int) else 1) 0) (0 : Int) 1 = ((1 : Nat) : Int) := by rw [e]; rfl
def mkW (B n f : Nat) : Nat → Nat → Prop := fun c k => wto B n f (wN n) c k ∨ (c = B + 193 ∧ k = f) ∨ (c = B + 149 ∧ k = 86)
theorem c_made738 (l : LX B n h) (hd : 12 ≤ d) (hn : n ≤ 52) (b : ∀ i, i < 10 → hv h (B + 193) i = (if is i = true then 1 else 0)) (hf : frB is 10 < 10) {r : Nat} (hr : r < 19) (m : MB B n h r T) :
    Vt 0 (cll PP (ev PP (gsF gv) B) d 738 [(2, rf (B + 149)), (0, (r : Int))] h) (fun x h' => x = (frB is 10 : Int) ∧ MB B n h' (frB is 10) T ∧ hv h' (B + 193) (frB is 10) = 1 ∧ hv h' (B + 149) 86 = -1 ∧ Agr (mkW B n (frB is 10)) h h') := by
  refine Vt.into (D := 11) hd (Nat.le_of_ble_eq_true rfl) rfl (fun d hd => ?_)
  refine Ends.eq (b738_0 (n := n) (by (repeat' first | assumption | refine LX.setF _ _ ?_ (by decide +kernel) | refine LX.setS ?_ rfl | refine LX.setA ?_ (by first | assumption | omega))) (by first | assumption | omega)) ?_
  refine Ends.ct l (by decide +kernel) (by decide) (c_free650 l (by omega) b) (fun x h1 l1 _ _ _ ⟨e1, ex⟩ => ?_)
  subst e1
  rw [ex, if_pos hf]
  refine Ends.eq (b738_4 (n := n) (by (repeat' first | assumption | refine LX.setF _ _ ?_ (by decide +kernel) | refine LX.setS ?_ rfl | refine LX.setA ?_ (by first | assumption | omega))) (by first | assumption | omega)) ?_
  refine Ends.cv l1 (by decide +kernel) (c_copyM l1 (by omega) hn hr (by omega) m) (fun h2 l2 _ _ _ ⟨g2, m2⟩ => ?_)
  refine Ends.eq (b738_11 (n := n) (by (repeat' first | assumption | refine LX.setF _ _ ?_ (by decide +kernel) | refine LX.setS ?_ rfl | refine LX.setA ?_ (by first | assumption | omega))) (by first | assumption | omega)) ?_
  refine Ends.g ⟨by omega, by omega⟩ ?_
  rw [tn]
  have G : Agr (mkW B n (frB is 10)) h1 (hset (hset h2 (B + 193) (frB is 10) (anar 3 1)) (B + 149) 86 (-1)) := ((g2.sub (W' := mkW B n (frB is 10)) (fun c k z => Or.inl z)).set (Or.inr (Or.inl ⟨rfl, rfl⟩))).set (Or.inr (Or.inr ⟨rfl, rfl⟩))
  refine Ends.sm ⟨_, _, rfl, rfl, ?_, ?_, hv_set_at .., G⟩
  · exact m2.agr (W := fun c _ => c ≠ B + 236) (((Agr.rf (W := fun c _ => c ≠ B + 236)).set (show B + 193 ≠ B + 236 by omega)).set (show B + 149 ≠ B + 236 by omega)) (fun k _ z => z rfl)
  · rw [hv_na (by omega), hv_set_at]; rfl
theorem fr_c {x : Int} : cond (tst 3 (if frB is 10 < 10 then (frB is 10 : Int) else -1) 0) (0 : Int) x = if frB is 10 < 10 then 0 else x := by
  by_cases e : frB is 10 < 10
  · rw [if_pos e, if_pos e, tst3, decide_eq_false (by omega)]; rfl
  · rw [if_neg e, if_neg e, tst3, decide_eq_true (by decide)]; rfl
/-- the model's answer: what it says of failing, or what it did -/
def MdA (B : Nat) (h : AH) (c : Nat) (x : Int) (h' : AH) : Prop := x = 0 ∧ h' = hset h (B + 149) 0 (c : Int)
theorem c_keep726 (l : LX B n h) (hd : 14 ≤ d) (hn : n ≤ 52) (b : BdM B n h is S) :
    Vt 0 (cll PP (ev PP (gsF gv) B) d 726 [(2, rf (B + 149))] h) (fun x h' => (¬ frB is 10 < 10 ∧ MdA B h 1 x h') ∨ (frB is 10 < 10 ∧ x = (frB is 10 : Int) ∧ MB B n h' (frB is 10) (S 10) ∧ hv h' (B + 193) (frB is 10) = 1 ∧ hv h' (B + 149) 86 = -1 ∧ Agr (mkW B n (frB is 10)) (hset h (B + 149) 0 0) h')) := by
  refine Vt.into (D := 13) hd (Nat.le_of_ble_eq_true rfl) rfl (fun d hd => ?_)
  refine Ends.eq (b726_0 (n := n) (by (repeat' first | assumption | refine LX.setF _ _ ?_ (by decide +kernel) | refine LX.setS ?_ rfl | refine LX.setA ?_ (by first | assumption | omega))) (by first | assumption | omega)) ?_
  refine Ends.ct l (by decide +kernel) (by decide) (c_free650 l (by omega) (fun i hi => (b.1 i hi).1)) (fun x h1 l1 _ _ _ ⟨e1, ex⟩ => ?_)
  subst e1
  rw [ex]
  refine Ends.eq (b726_5 (n := n) (by (repeat' first | assumption | refine LX.setF _ _ ?_ (by decide +kernel) | refine LX.setS ?_ rfl | refine LX.setA ?_ (by first | assumption | omega))) (by first | assumption | omega)) ?_
  rw [fr_c]
  by_cases hf : frB is 10 < 10
  · rw [if_pos hf]
    refine Ends.mok l1 (by omega) rfl ?_
    have l2 : LX B n (hset h1 (B + 149) 0 0) := LX.setF 149 0 l1 (by decide +kernel)
    refine Ends.eq (b726_16 (n := n) (by (repeat' first | assumption | refine LX.setF _ _ ?_ (by decide +kernel) | refine LX.setS ?_ rfl | refine LX.setA ?_ (by first | assumption | omega))) (by first | assumption | omega)) ?_
    refine Ends.b0 (fun _ => ?_) (fun z => absurd rfl z)
    have b2 := b.fset 0 0
    refine Ends.ct l2 (by decide +kernel) (by decide) (c_made738 (r := 10) l2 (by omega) hn (fun i hi => (b2.1 i hi).1) hf (by decide) b2.2) (fun x h3 l3 _ _ _ r => ?_)
    refine Ends.eq (b726_27 (n := n) (by (repeat' first | assumption | refine LX.setF _ _ ?_ (by decide +kernel) | refine LX.setS ?_ rfl | refine LX.setA ?_ (by first | assumption | omega))) (by first | assumption | omega)) ?_
    exact Ends.sm ⟨_, _, rfl, Or.inr ⟨hf, r⟩⟩
  · rw [if_neg hf]
    refine Ends.mbad l1 (by omega) (c := 1) (by decide) rfl ?_
    have l2 : LX B n (hset h1 (B + 149) 0 ((1 : Nat) : Int)) := LX.setF 149 0 l1 (by decide +kernel)
    refine Ends.eq (b726_16 (n := n) (by (repeat' first | assumption | refine LX.setF _ _ ?_ (by decide +kernel) | refine LX.setS ?_ rfl | refine LX.setA ?_ (by first | assumption | omega))) (by first | assumption | omega)) ?_
    exact Ends.b0 (fun z => absurd z (by decide)) (fun _ => Ends.sm ⟨_, _, rfl, Or.inl ⟨hf, rfl, rfl⟩⟩)
theorem c_grains665 (l : LX B n h) (hd : 14 ≤ d) (hn : n ≤ 52) (b : BdM B n h is S) :
    Vt 0 (cll PP (ev PP (gsF gv) B) d 665 [(2, rf (B + 149)), (0, o)] h) (fun x h' => (thS is o = false ∧ MdA B h 1 x h') ∨ (thS is o = true ∧ x = ((cntN (S (rwS o)) (gN n) : Nat) : Int) ∧ h' = hset h (B + 149) 0 0)) := by
  refine Vt.into (D := 13) hd (Nat.le_of_ble_eq_true rfl) rfl (fun d hd => ?_)
  refine Ends.eq (b665_0 (n := n) (by (repeat' first | assumption | refine LX.setF _ _ ?_ (by decide +kernel) | refine LX.setS ?_ rfl | refine LX.setA ?_ (by first | assumption | omega))) (by first | assumption | omega)) ?_
  obtain ⟨v1, v2⟩ := v765_is (o := o) (fun i hi => (b.1 i hi).1)
  refine Ends.g v1 ?_
  rw [v2]
  cases hs : thS is o
  · refine Ends.mbad l (by omega) (c := 1) (by decide) rfl ?_
    have l2 : LX B n (hset h (B + 149) 0 ((1 : Nat) : Int)) := LX.setF 149 0 l (by decide +kernel)
    refine Ends.eq (b665_17 (n := n) (by (repeat' first | assumption | refine LX.setF _ _ ?_ (by decide +kernel) | refine LX.setS ?_ rfl | refine LX.setA ?_ (by first | assumption | omega))) (by first | assumption | omega)) ?_
    exact Ends.b0 (fun z => absurd z (by decide)) (fun _ => Ends.sm ⟨_, _, rfl, Or.inl ⟨rfl, rfl, rfl⟩⟩)
  · refine Ends.mok l (by omega) rfl ?_
    have l2 : LX B n (hset h (B + 149) 0 0) := LX.setF 149 0 l (by decide +kernel)
    obtain ⟨s1, s2⟩ := (b.fset 0 0).sol hs
    refine Ends.eq (b665_17 (n := n) (by (repeat' first | assumption | refine LX.setF _ _ ?_ (by decide +kernel) | refine LX.setS ?_ rfl | refine LX.setA ?_ (by first | assumption | omega))) (by first | assumption | omega)) ?_
    rw [v806_is hs]
    refine Ends.b0 (fun _ => ?_) (fun z => absurd rfl z)
    refine Ends.ct l2 (by decide +kernel) (by decide) (c_countOf l2 (by omega) hn (by omega) s1) (fun x h3 l3 _ _ _ ⟨e3, ex⟩ => ?_)
    refine Ends.eq (b665_30 (n := n) (by (repeat' first | assumption | refine LX.setF _ _ ?_ (by decide +kernel) | refine LX.setS ?_ rfl | refine LX.setA ?_ (by first | assumption | omega))) (by first | assumption | omega)) ?_
    exact Ends.sm ⟨_, _, rfl, Or.inr ⟨rfl, ex, e3⟩⟩
theorem two_c : cond (tst 1 (if thS is o = true then (0 : Int) else 1) 0) (1 : Int) (cond (tst 0 (if thS is p = true then (0 : Int) else 1) 0) 0 1) = if thS is o = true ∧ thS is p = true then 0 else 1 := by
  cases thS is o <;> cases thS is p <;> rfl
theorem c_equal613 (l : LX B n h) (hd : 14 ≤ d) (hn : n ≤ 52) (b : BdM B n h is S) :
    Vt 0 (cll PP (ev PP (gsF gv) B) d 613 [(2, rf (B + 149)), (0, o), (0, p)] h) (fun x h' => (¬ (thS is o = true ∧ thS is p = true) ∧ MdA B h 1 x h') ∨ ((thS is o = true ∧ thS is p = true) ∧ ((x = 1 ∧ ∀ g, g < gN n → S (rwS o) g = S (rwS p) g) ∨ (x = 0 ∧ ¬ ∀ g, g < gN n → S (rwS o) g = S (rwS p) g)) ∧ h' = hset h (B + 149) 0 0)) := by
  refine Vt.into (D := 13) hd (Nat.le_of_ble_eq_true rfl) rfl (fun d hd => ?_)
  refine Ends.eq (b613_0 (n := n) (by (repeat' first | assumption | refine LX.setF _ _ ?_ (by decide +kernel) | refine LX.setS ?_ rfl | refine LX.setA ?_ (by first | assumption | omega))) (by first | assumption | omega)) ?_
  obtain ⟨v1, v2⟩ := v765_is (o := o) (fun i hi => (b.1 i hi).1)
  obtain ⟨u1, u2⟩ := v765_is (o := p) (fun i hi => (b.1 i hi).1)
  refine Ends.g v1 (Ends.g (cT u1) ?_)
  rw [v2, u2, two_c]
  by_cases hs : thS is o = true ∧ thS is p = true
  · rw [if_pos hs]
    refine Ends.mok l (by omega) rfl ?_
    have l2 : LX B n (hset h (B + 149) 0 0) := LX.setF 149 0 l (by decide +kernel)
    obtain ⟨s1, s2⟩ := (b.fset 0 0).sol hs.1
    obtain ⟨t1, t2⟩ := (b.fset 0 0).sol hs.2
    refine Ends.eq (b613_25 (n := n) (by (repeat' first | assumption | refine LX.setF _ _ ?_ (by decide +kernel) | refine LX.setS ?_ rfl | refine LX.setA ?_ (by first | assumption | omega))) (by first | assumption | omega)) ?_
    rw [v806_is hs.1, v806_is hs.2]
    refine Ends.b0 (fun _ => ?_) (fun z => absurd rfl z)
    refine Ends.ct l2 (by decide +kernel) (by decide) (c_isSame l2 (by omega) hn (by omega) (by omega) s1 t1) (fun x h3 l3 _ _ _ ⟨e3, ex⟩ => ?_)
    refine Ends.eq (b613_42 (n := n) (by (repeat' first | assumption | refine LX.setF _ _ ?_ (by decide +kernel) | refine LX.setS ?_ rfl | refine LX.setA ?_ (by first | assumption | omega))) (by first | assumption | omega)) ?_
    rcases ex with ⟨rfl, e⟩ | ⟨rfl, e⟩
    · exact Ends.g (Or.inr rfl) (Ends.sm ⟨_, _, rfl, Or.inr ⟨hs, Or.inl ⟨rfl, e⟩, e3⟩⟩)
    · exact Ends.g (Or.inl rfl) (Ends.sm ⟨_, _, rfl, Or.inr ⟨hs, Or.inr ⟨rfl, e⟩, e3⟩⟩)
  · rw [if_neg hs]
    refine Ends.mbad l (by omega) (c := 1) (by decide) rfl ?_
    have l2 : LX B n (hset h (B + 149) 0 ((1 : Nat) : Int)) := LX.setF 149 0 l (by decide +kernel)
    refine Ends.eq (b613_25 (n := n) (by (repeat' first | assumption | refine LX.setF _ _ ?_ (by decide +kernel) | refine LX.setS ?_ rfl | refine LX.setA ?_ (by first | assumption | omega))) (by first | assumption | omega)) ?_
    exact Ends.b0 (fun z => absurd z (by decide)) (fun _ => Ends.sm ⟨_, _, rfl, Or.inl ⟨hs, rfl, rfl⟩⟩)
theorem c_lumps736 (l : LX B n h) (hd : 18 ≤ d) (hn0 : 0 < n) (hn : n ≤ 52) (m : TbM B h) (b : BdM B n h is S) :
    Vt 0 (cll PP (ev PP (gsF gv) B) d 736 [(2, rf (B + 149)), (0, o)] h) (fun x h' => (thS is o = false ∧ MdA B h 1 x h') ∨ (thS is o = true ∧ (∃ k : Nat, x = (k : Int) ∧ NC n (S (rwS o)) (S (rwS o)) k) ∧ Agr (tpW B n 13 14 15) (hset h (B + 149) 0 0) h')) := by
  refine Vt.into (D := 17) hd (Nat.le_of_ble_eq_true rfl) rfl (fun d hd => ?_)
  refine Ends.eq (b736_0 (n := n) (by (repeat' first | assumption | refine LX.setF _ _ ?_ (by decide +kernel) | refine LX.setS ?_ rfl | refine LX.setA ?_ (by first | assumption | omega))) (by first | assumption | omega)) ?_
  obtain ⟨v1, v2⟩ := v765_is (o := o) (fun i hi => (b.1 i hi).1)
  refine Ends.g v1 ?_
  rw [v2]
  cases hs : thS is o
  · refine Ends.mbad l (by omega) (c := 1) (by decide) rfl ?_
    have l2 : LX B n (hset h (B + 149) 0 ((1 : Nat) : Int)) := LX.setF 149 0 l (by decide +kernel)
    refine Ends.eq (b736_17 (n := n) (by (repeat' first | assumption | refine LX.setF _ _ ?_ (by decide +kernel) | refine LX.setS ?_ rfl | refine LX.setA ?_ (by first | assumption | omega))) (by first | assumption | omega)) ?_
    exact Ends.b0 (fun z => absurd z (by decide)) (fun _ => Ends.sm ⟨_, _, rfl, Or.inl ⟨rfl, rfl, rfl⟩⟩)
  · refine Ends.mok l (by omega) rfl ?_
    have l2 : LX B n (hset h (B + 149) 0 0) := LX.setF 149 0 l (by decide +kernel)
    obtain ⟨s1, s2⟩ := (b.fset 0 0).sol hs
    have m2 : TbM B (hset h (B + 149) 0 0) := m.agr (W := fun c _ => c = B + 149) (Agr.rf.set rfl) (fun c k z1 z2 z3 z => by omega)
    refine Ends.eq (b736_17 (n := n) (by (repeat' first | assumption | refine LX.setF _ _ ?_ (by decide +kernel) | refine LX.setS ?_ rfl | refine LX.setA ?_ (by first | assumption | omega))) (by first | assumption | omega)) ?_
    rw [v806_is hs]
    refine Ends.b0 (fun _ => ?_) (fun z => absurd rfl z)
    refine Ends.ct l2 (by decide +kernel) (by decide) (c_lumpsOf l2 (by omega) hn0 hn (by omega) m2 s1) (fun x h3 l3 _ _ _ ⟨e3, ex⟩ => ?_)
    refine Ends.eq (b736_30 (n := n) (by (repeat' first | assumption | refine LX.setF _ _ ?_ (by decide +kernel) | refine LX.setS ?_ rfl | refine LX.setA ?_ (by first | assumption | omega))) (by first | assumption | omega)) ?_
    exact Ends.sm ⟨_, _, rfl, Or.inr ⟨rfl, ex, e3⟩⟩
end MBODY
