/-! L3: the model's bodies: combined, turned, hollows, clearance, dropped -/
section MBODY2
variable {gv : Nat → Int} {B n d : Nat} {h : AH} {is : Nat → Bool} {S : Nat → Nat → Bool} {o p op w dx dy dz : Int} {T : Nat → Bool}
/-- what combine answers when it fails -/
def cbC (is : Nat → Bool) (o p op : Int) : Nat := if ¬ (thS is o = true ∧ thS is p = true) then 1 else if ¬ (0 ≤ op ∧ op ≤ 2) then 2 else if ¬ frB is 10 < 10 then 3 else 0
theorem c_combine574 (l : LX B n h) (hd : 14 ≤ d) (hn : n ≤ 52) (b : BdM B n h is S) :
    Vt 0 (cll PP (ev PP (gsF gv) B) d 574 [(2, rf (B + 149)), (0, o), (0, p), (0, op)] h) (fun x h' => (cbC is o p op ≠ 0 ∧ MdA B h (cbC is o p op) x h') ∨ (cbC is o p op = 0 ∧ x = (frB is 10 : Int) ∧ MB B n h' (frB is 10) (fun g => jn op (S (rwS o) g) (S (rwS p) g)) ∧ hv h' (B + 193) (frB is 10) = 1 ∧ hv h' (B + 149) 86 = -1 ∧ Agr (fun c k => mkW B n (frB is 10) c k ∨ wto B n 13 (wN n) c k) (hset h (B + 149) 0 0) h')) := by
  refine Vt.inq (D := 13) hd (Nat.le_of_ble_eq_true rfl) rfl (fun d hd Q K => ?_)
  have tail : ∀ y : Int, y = (cbC is o p op : Nat) → Ends (ev PP (gsF gv) B d 574 46 [(2, rf (B + 149)), (0, o), (0, p), (0, op)] [(0, y), (2, rf (B + 149))] h) Q := by
    intro y ey
    refine Ends.eq (b574_46 (n := n) (by (repeat' first | assumption | refine LX.setF _ _ ?_ (by decide +kernel) | refine LX.setS ?_ rfl | refine LX.setA ?_ (by first | assumption | omega))) (by first | assumption | omega)) ?_
    by_cases c0 : cbC is o p op = 0
    · refine Ends.mok l (by omega) (by rw [ey, c0]; rfl) ?_
      have l2 : LX B n (hset h (B + 149) 0 0) := LX.setF 149 0 l (by decide +kernel)
      have hs : thS is o = true ∧ thS is p = true := by unfold cbC at c0; split at c0; omega; next z => exact Classical.not_not.mp z
      have hop : 0 ≤ op ∧ op ≤ 2 := by unfold cbC at c0; rw [if_neg (fun z => z hs)] at c0; split at c0; omega; next z => exact Classical.not_not.mp z
      have hf : frB is 10 < 10 := by unfold cbC at c0; rw [if_neg (fun z => z hs), if_neg (fun z => z hop)] at c0; split at c0; omega; next z => exact Classical.not_not.mp z
      have b2 := b.fset 0 0
      obtain ⟨s1, s2⟩ := b2.sol hs.1
      obtain ⟨t1, t2⟩ := b2.sol hs.2
      refine Ends.eq (b574_49 (n := n) (by (repeat' first | assumption | refine LX.setF _ _ ?_ (by decide +kernel) | refine LX.setS ?_ rfl | refine LX.setA ?_ (by first | assumption | omega))) (by first | assumption | omega)) ?_
      rw [v806_is hs.1, v806_is hs.2]
      refine Ends.b0 (fun _ => ?_) (fun z => absurd rfl z)
      refine Ends.cv l2 (by decide +kernel) (c_combineM (u := 13) l2 (by omega) hn (by omega) (by omega) (by decide) s1 t1 hop) (fun h3 l3 _ _ _ ⟨g3, m3⟩ => ?_)
      refine Ends.eq (b574_69 (n := n) (by (repeat' first | assumption | refine LX.setF _ _ ?_ (by decide +kernel) | refine LX.setS ?_ rfl | refine LX.setA ?_ (by first | assumption | omega))) (by first | assumption | omega)) ?_
      refine Ends.ct l3 (by decide +kernel) (by decide) (c_made738 (r := 13) l3 (by omega) hn (fun i hi => by rw [g3.at _ _ (by unfold wto; omega)]; exact (b2.1 i hi).1) hf (by decide) m3) (fun x h4 l4 _ _ _ ⟨ex, m4, a4, f4, g4⟩ => ?_)
      refine Ends.eq (b574_75 (n := n) (by (repeat' first | assumption | refine LX.setF _ _ ?_ (by decide +kernel) | refine LX.setS ?_ rfl | refine LX.setA ?_ (by first | assumption | omega))) (by first | assumption | omega)) ?_
      exact Ends.sm (K _ _ (Or.inr ⟨c0, ex, m4, a4, f4, (g3.sub (fun c k z => Or.inr z)).tr g4 (fun c k z => Or.inl z)⟩))
    · refine Ends.mbad l (by omega) c0 ey ?_
      have l2 : LX B n (hset h (B + 149) 0 (cbC is o p op : Int)) := LX.setF 149 0 l (by decide +kernel)
      refine Ends.eq (b574_49 (n := n) (by (repeat' first | assumption | refine LX.setF _ _ ?_ (by decide +kernel) | refine LX.setS ?_ rfl | refine LX.setA ?_ (by first | assumption | omega))) (by first | assumption | omega)) ?_
      exact Ends.b0 (fun z => absurd z (by decide)) (fun _ => Ends.sm (K _ _ (Or.inl ⟨c0, rfl, rfl⟩)))
  obtain ⟨v1, v2⟩ := v765_is (o := o) (fun i hi => (b.1 i hi).1)
  obtain ⟨u1, u2⟩ := v765_is (o := p) (fun i hi => (b.1 i hi).1)
  have one : ¬ (thS is o = true ∧ thS is p = true) → Ends (ev PP (gsF gv) B d 574 17 [(2, rf (B + 149)), (0, o), (0, p), (0, op)] [(2, rf (B + 149))] h) Q := fun z => by
    refine Ends.eq (b574_17 (n := n) (by (repeat' first | assumption | refine LX.setF _ _ ?_ (by decide +kernel) | refine LX.setS ?_ rfl | refine LX.setA ?_ (by first | assumption | omega))) (by first | assumption | omega)) ?_
    exact tail 1 (by unfold cbC; rw [if_pos z]; rfl)
  have two : thS is o = true ∧ thS is p = true → ¬ (0 ≤ op ∧ op ≤ 2) → Ends (ev PP (gsF gv) B d 574 30 [(2, rf (B + 149)), (0, o), (0, p), (0, op)] [(2, rf (B + 149))] h) Q := fun z y => by
    refine Ends.eq (b574_30 (n := n) (by (repeat' first | assumption | refine LX.setF _ _ ?_ (by decide +kernel) | refine LX.setS ?_ rfl | refine LX.setA ?_ (by first | assumption | omega))) (by first | assumption | omega)) ?_
    exact tail 2 (by unfold cbC; rw [if_neg (fun q => q z), if_pos y]; rfl)
  refine Ends.eq (b574_0 (n := n) (by (repeat' first | assumption | refine LX.setF _ _ ?_ (by decide +kernel) | refine LX.setS ?_ rfl | refine LX.setA ?_ (by first | assumption | omega))) (by first | assumption | omega)) ?_
  refine Ends.g v1 ?_
  rw [v2, u2]
  cases hs : thS is o
  · exact Ends.b1 (fun _ => one (by rw [hs]; simp)) (fun z => absurd z (by decide))
  refine Ends.b1 (fun z => absurd rfl z) (fun _ => Ends.g u1 ?_)
  cases hp : thS is p
  · exact Ends.b0 (fun z => absurd z (by decide)) (fun _ => one (by rw [hp]; simp))
  refine Ends.b0 (fun _ => ?_) (fun z => absurd rfl z)
  refine Ends.b2 (fun z => two ⟨hs, hp⟩ (by omega)) (fun z1 => Ends.b5 (fun z2 => ?_) (fun z => two ⟨hs, hp⟩ (by omega)))
  refine Ends.ct l (by decide +kernel) (by decide) (c_free650 l (by omega) (fun i hi => (b.1 i hi).1)) (fun x h1 l1 _ _ _ ⟨e1, ex⟩ => ?_)
  subst e1
  rw [ex]
  refine Ends.eq (b574_38 (n := n) (by (repeat' first | assumption | refine LX.setF _ _ ?_ (by decide +kernel) | refine LX.setS ?_ rfl | refine LX.setA ?_ (by first | assumption | omega))) (by first | assumption | omega)) ?_
  rw [fr_c]
  have ec : cbC is o p op = if frB is 10 < 10 then 0 else 3 := by
    unfold cbC
    rw [if_neg (fun q => q ⟨hs, hp⟩), if_neg (fun q => q ⟨z1, z2⟩)]
    by_cases hf : frB is 10 < 10
    · rw [if_pos hf, if_neg (fun q => q hf)]
    · rw [if_neg hf, if_pos hf]
  refine tail _ ?_
  rw [ec]
  split <;> rfl
theorem mtr_c : cond (tst 2 w 0) (1 : Int) (cond (tst 4 w 47) 1 (cond (tst 2 dx (-64)) 1 (cond (tst 4 dx 64) 1 (cond (tst 2 dy (-64)) 1 (cond (tst 4 dy 64) 1 (cond (tst 2 dz (-64)) 1 (cond (tst 5 dz 64) 0 1))))))) = if (0 ≤ w ∧ w ≤ 47) ∧ (-64 ≤ dx ∧ dx ≤ 64) ∧ (-64 ≤ dy ∧ dy ≤ 64) ∧ -64 ≤ dz ∧ dz ≤ 64 then 0 else 1 := by
  simp only [tst2, tst4, tst5]
  by_cases a1 : w < 0
  · rw [decide_eq_true a1, if_neg (by omega)]; rfl
  by_cases a2 : 47 < w
  · rw [decide_eq_false a1, decide_eq_true a2, if_neg (by omega)]; rfl
  by_cases a3 : dx < -64
  · rw [decide_eq_false a1, decide_eq_false a2, decide_eq_true a3, if_neg (by omega)]; rfl
  by_cases a4 : 64 < dx
  · rw [decide_eq_false a1, decide_eq_false a2, decide_eq_false a3, decide_eq_true a4, if_neg (by omega)]; rfl
  by_cases a5 : dy < -64
  · rw [decide_eq_false a1, decide_eq_false a2, decide_eq_false a3, decide_eq_false a4, decide_eq_true a5, if_neg (by omega)]; rfl
  by_cases a6 : 64 < dy
  · rw [decide_eq_false a1, decide_eq_false a2, decide_eq_false a3, decide_eq_false a4, decide_eq_false a5, decide_eq_true a6, if_neg (by omega)]; rfl
  by_cases a7 : dz < -64
  · rw [decide_eq_false a1, decide_eq_false a2, decide_eq_false a3, decide_eq_false a4, decide_eq_false a5, decide_eq_false a6, decide_eq_true a7, if_neg (by omega)]; rfl
  by_cases a8 : 64 < dz
  · rw [decide_eq_false a1, decide_eq_false a2, decide_eq_false a3, decide_eq_false a4, decide_eq_false a5, decide_eq_false a6, decide_eq_false a7, decide_eq_true a8, if_neg (by omega)]; rfl
  · rw [decide_eq_false a1, decide_eq_false a2, decide_eq_false a3, decide_eq_false a4, decide_eq_false a5, decide_eq_false a6, decide_eq_false a7, decide_eq_false a8, if_pos (by omega)]; rfl
/-- turned: who leaves, and whether there is room for one more -/
def tmW (B n f : Nat) : Nat → Nat → Prop := fun c k => mkW B n f c k ∨ wTurn B n 13 c k ∨ (c = B + 149 ∧ k = 0)
theorem c_turned856 (l : LX B n h) (hd : 14 ≤ d) (hn : n ≤ 52) (m : TbM B h) (b : BdM B n h is S) :
    Vt 0 (cll PP (ev PP (gsF gv) B) d 856 [(2, rf (B + 149)), (0, o), (0, w), (0, dx), (0, dy), (0, dz)] h) (fun x h' => Agr (tmW B n (frB is 10)) h h' ∧ ((thS is o = false ∧ x = 0 ∧ hv h' (B + 149) 0 = 1) ∨ (thS is o = true ∧ ¬ trOK w dx dy dz ∧ x = 0 ∧ hv h' (B + 149) 0 = 2) ∨ ((thS is o = true ∧ trOK w dx dy dz) ∧ lvG n (S (rwS o)) w dx dy dz ∧ x = 0 ∧ hv h' (B + 149) 0 = 3) ∨ ((thS is o = true ∧ trOK w dx dy dz) ∧ ¬ lvG n (S (rwS o)) w dx dy dz ∧ ¬ frB is 10 < 10 ∧ x = 0 ∧ hv h' (B + 149) 0 = 4) ∨ ((thS is o = true ∧ trOK w dx dy dz) ∧ ¬ lvG n (S (rwS o)) w dx dy dz ∧ frB is 10 < 10 ∧ x = (frB is 10 : Int) ∧ hv h' (B + 149) 0 = 0 ∧ hv h' (B + 193) (frB is 10) = 1 ∧ hv h' (B + 149) 86 = -1 ∧ ∃ T, MB B n h' (frB is 10) T ∧ ∀ g, g < gN n → (T g = true ↔ ∃ g0, g0 < gN n ∧ S (rwS o) g0 = true ∧ tuG n w.toNat g0 dx dy dz = (g : Int))))) := by
  refine Vt.into (D := 13) hd (Nat.le_of_ble_eq_true rfl) rfl (fun d hd => ?_)
  refine Ends.eq (b856_0 (n := n) (by (repeat' first | assumption | refine LX.setF _ _ ?_ (by decide +kernel) | refine LX.setS ?_ rfl | refine LX.setA ?_ (by first | assumption | omega))) (by first | assumption | omega)) ?_
  obtain ⟨v1, v2⟩ := v765_is (o := o) (fun i hi => (b.1 i hi).1)
  refine Ends.g v1 ?_
  rw [v2, mtr_c]
  have fs : ∀ v : Int, Agr (tmW B n (frB is 10)) h (hset h (B + 149) 0 v) := fun v => Agr.rf.set (Or.inr (Or.inr ⟨rfl, rfl⟩))
  cases hs : thS is o
  · refine Ends.mbad l (by omega) (c := 1) (by decide) rfl ?_
    have l2 : LX B n (hset h (B + 149) 0 ((1 : Nat) : Int)) := LX.setF 149 0 l (by decide +kernel)
    refine Ends.eq (b856_83 (n := n) (by (repeat' first | assumption | refine LX.setF _ _ ?_ (by decide +kernel) | refine LX.setS ?_ rfl | refine LX.setA ?_ (by first | assumption | omega))) (by first | assumption | omega)) ?_
    exact Ends.b0 (fun z => absurd z (by decide)) (fun _ => Ends.sm ⟨_, _, rfl, fs _, Or.inl ⟨rfl, rfl, hv_set_at ..⟩⟩)
  by_cases hq : (0 ≤ w ∧ w ≤ 47) ∧ (-64 ≤ dx ∧ dx ≤ 64) ∧ (-64 ≤ dy ∧ dy ≤ 64) ∧ -64 ≤ dz ∧ dz ≤ 64
  rotate_left
  · rw [if_neg hq]
    refine Ends.mbad l (by omega) (c := 2) (by decide) rfl ?_
    have l2 : LX B n (hset h (B + 149) 0 ((2 : Nat) : Int)) := LX.setF 149 0 l (by decide +kernel)
    refine Ends.eq (b856_83 (n := n) (by (repeat' first | assumption | refine LX.setF _ _ ?_ (by decide +kernel) | refine LX.setS ?_ rfl | refine LX.setA ?_ (by first | assumption | omega))) (by first | assumption | omega)) ?_
    exact Ends.b0 (fun z => absurd z (by decide)) (fun _ => Ends.sm ⟨_, _, rfl, fs _, Or.inr (Or.inl ⟨rfl, hq, rfl, hv_set_at ..⟩)⟩)
  rw [if_pos hq]
  obtain ⟨wk, rfl⟩ : ∃ k : Nat, w = (k : Int) := ⟨w.toNat, by have := hq.1; omega⟩
  have hw : wk < 48 := by have := hq.1; omega
  refine Ends.mok l (by omega) rfl ?_
  have l2 : LX B n (hset h (B + 149) 0 0) := LX.setF 149 0 l (by decide +kernel)
  have b2 := b.fset 0 0
  obtain ⟨s1, s2⟩ := b2.sol hs
  have m2 : TbM B (hset h (B + 149) 0 0) := m.agr (W := fun c _ => c = B + 149) (Agr.rf.set rfl) (fun c k z1 z2 z3 z => by omega)
  refine Ends.eq (b856_83 (n := n) (by (repeat' first | assumption | refine LX.setF _ _ ?_ (by decide +kernel) | refine LX.setS ?_ rfl | refine LX.setA ?_ (by first | assumption | omega))) (by first | assumption | omega)) ?_
  rw [v806_is hs]
  refine Ends.b0 (fun _ => ?_) (fun z => absurd rfl z)
  refine Ends.cv l2 (by decide +kernel) (c_turnM (t := 13) l2 (by omega) hn (by omega) (by decide) (by omega) m2 s1 hw (dx := dx) (dy := dy) (dz := dz) (by omega) (by omega) (by omega)) (fun h3 l3 _ _ _ ⟨g3, ⟨T, m3, t3⟩, v3, lv3⟩ => ?_)
  have lvi : hv h3 (B + 149) 78 = 1 ↔ lvG n (S (rwS o)) (wk : Int) dx dy dz := lv3
  have G3 : Agr (tmW B n (frB is 10)) h h3 := (fs 0).tr g3 (fun c k z => Or.inr (Or.inl z))
  have b3 : ∀ i, i < 10 → hv h3 (B + 193) i = (if is i = true then 1 else 0) := fun i hi => by
    rw [g3.at _ _ (by unfold wTurn wto; omega)]; exact (b2.1 i hi).1
  refine Ends.eq (b856_104 (n := n) (by (repeat' first | assumption | refine LX.setF _ _ ?_ (by decide +kernel) | refine LX.setS ?_ rfl | refine LX.setA ?_ (by first | assumption | omega))) (by first | assumption | omega)) ?_
  refine Ends.b0 (fun z => ?_) (fun z => ?_)
  · have nl : ¬ lvG n (S (rwS o)) (wk : Int) dx dy dz := fun y => by have := lvi.mpr y; omega
    refine Ends.ct l3 (by decide +kernel) (by decide) (c_free650 l3 (by omega) b3) (fun x h4 l4 _ _ _ ⟨e4, ex⟩ => ?_)
    subst e4
    rw [ex]
    refine Ends.eq (b856_120 (n := n) (by (repeat' first | assumption | refine LX.setF _ _ ?_ (by decide +kernel) | refine LX.setS ?_ rfl | refine LX.setA ?_ (by first | assumption | omega))) (by first | assumption | omega)) ?_
    rw [fr_c]
    refine Ends.eq (b856_128 (n := n) (by (repeat' first | assumption | refine LX.setF _ _ ?_ (by decide +kernel) | refine LX.setS ?_ rfl | refine LX.setA ?_ (by first | assumption | omega))) (by first | assumption | omega)) ?_
    by_cases hf : frB is 10 < 10
    · rw [if_pos hf]
      refine Ends.mok l4 (by omega) rfl ?_
      have l5 : LX B n (hset h4 (B + 149) 0 0) := LX.setF 149 0 l4 (by decide +kernel)
      refine Ends.eq (b856_131 (n := n) (by (repeat' first | assumption | refine LX.setF _ _ ?_ (by decide +kernel) | refine LX.setS ?_ rfl | refine LX.setA ?_ (by first | assumption | omega))) (by first | assumption | omega)) ?_
      refine Ends.b0 (fun _ => ?_) (fun z => absurd rfl z)
      refine Ends.ct l5 (by decide +kernel) (by decide) (c_made738 (r := 13) l5 (by omega) hn (fun i hi => by rw [hv_na (by omega)]; exact b3 i hi) hf (by decide) (m3.fset 0 0)) (fun x h6 l6 _ _ _ ⟨ex6, m6, a6, f6, g6⟩ => ?_)
      refine Ends.eq (b856_142 (n := n) (by (repeat' first | assumption | refine LX.setF _ _ ?_ (by decide +kernel) | refine LX.setS ?_ rfl | refine LX.setA ?_ (by first | assumption | omega))) (by first | assumption | omega)) ?_
      refine Ends.sm ⟨_, _, rfl, (G3.set (Or.inr (Or.inr ⟨rfl, rfl⟩))).tr g6 (fun c k z => Or.inl z), Or.inr (Or.inr (Or.inr (Or.inr ⟨⟨rfl, hq⟩, nl, hf, ex6, ?_, a6, f6, T, m6, fun g hg => ?_⟩)))⟩
      · rw [g6.at _ _ (by unfold mkW wto; omega), hv_set_at]
      · rw [t3 g hg]; exact Iff.rfl
    · rw [if_neg hf]
      refine Ends.mbad l4 (by omega) (c := 4) (by decide) rfl ?_
      have l5 : LX B n (hset h4 (B + 149) 0 ((4 : Nat) : Int)) := LX.setF 149 0 l4 (by decide +kernel)
      refine Ends.eq (b856_131 (n := n) (by (repeat' first | assumption | refine LX.setF _ _ ?_ (by decide +kernel) | refine LX.setS ?_ rfl | refine LX.setA ?_ (by first | assumption | omega))) (by first | assumption | omega)) ?_
      exact Ends.b0 (fun z => absurd z (by decide)) (fun _ => Ends.sm ⟨_, _, rfl, G3.set (Or.inr (Or.inr ⟨rfl, rfl⟩)), Or.inr (Or.inr (Or.inr (Or.inl ⟨⟨rfl, hq⟩, nl, hf, rfl, hv_set_at ..⟩)))⟩)
  · have yl : lvG n (S (rwS o)) (wk : Int) dx dy dz := lvi.mp (by rcases v3 with v3 | v3; exact absurd v3 z; exact v3)
    refine Ends.eq (b856_128 (n := n) (by (repeat' first | assumption | refine LX.setF _ _ ?_ (by decide +kernel) | refine LX.setS ?_ rfl | refine LX.setA ?_ (by first | assumption | omega))) (by first | assumption | omega)) ?_
    refine Ends.mbad l3 (by omega) (c := 3) (by decide) rfl ?_
    have l5 : LX B n (hset h3 (B + 149) 0 ((3 : Nat) : Int)) := LX.setF 149 0 l3 (by decide +kernel)
    refine Ends.eq (b856_131 (n := n) (by (repeat' first | assumption | refine LX.setF _ _ ?_ (by decide +kernel) | refine LX.setS ?_ rfl | refine LX.setA ?_ (by first | assumption | omega))) (by first | assumption | omega)) ?_
    exact Ends.b0 (fun z => absurd z (by decide)) (fun _ => Ends.sm ⟨_, _, rfl, G3.set (Or.inr (Or.inr ⟨rfl, rfl⟩)), Or.inr (Or.inr (Or.inl ⟨⟨rfl, hq⟩, yl, rfl, hv_set_at ..⟩))⟩)
end MBODY2
