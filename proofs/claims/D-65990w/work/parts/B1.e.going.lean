/-! L3: who goes along; slide; the least that can't hold -/
section GOING
variable {gv : Nat → Int} {B n d : Nat} {h : AH} {pl jn : Nat} {ja jb jx : Nat → Nat} {js : Nat → Int} {a i : Nat}
def goW (B : Nat) : Nat → Nat → Prop := fun c k => spW B c k ∨ c = B + 130 ∨ c = B + 131
theorem c_going110 (l : LX B n h) (hd : 16 ≤ d) (J : AsJ B h pl jn ja jb jx js) (hi : i < pl) (ha : a < 3) :
    Vt 0 (cll PP (ev PP (gsF gv) B) d 110 [(2, rf (B + 118)), (0, (i : Int)), (0, (a : Int))] h) (fun v h' => Agr (goW B) h h' ∧ ∃ ρ α w, TieR pl jn ja jb (eS jb js) (aC' jx none0 a) ρ α w ∧ (∀ k, k < pl → hv h' (B + 131) k = if ρ k = ρ i then 1 else 0) ∧ v = if ρ i = 12 then 0 else ((cntN (fun k => decide (ρ k = ρ i)) pl : Nat) : Int)) := by
  have pl12 := J.2.2.1
  refine Vt.inq (D := 15) hd (Nat.le_of_ble_eq_true rfl) rfl (fun d hd Q K => ?_)
  refine Ends.eq (b110_0 (n := n) (by (repeat' first | assumption | refine LX.setF _ _ ?_ (by decide +kernel) | refine LX.setS ?_ rfl | refine LX.setA ?_ (by first | assumption | omega))) (by first | assumption | omega)) ?_
  refine Ends.cv l (by decide +kernel) (c_allIn106 l (by omega)) (fun h1 l1 _ _ _ ⟨g1, o1⟩ => ?_)
  refine Ends.eq (b110_4 (n := n) (by (repeat' first | assumption | refine LX.setF _ _ ?_ (by decide +kernel) | refine LX.setS ?_ rfl | refine LX.setA ?_ (by first | assumption | omega))) (by first | assumption | omega)) ?_
  have J1 : AsJ B h1 pl jn ja jb jx js := J.agr g1 (by omega) (by omega) (fun c k h1 h2 => by omega)
  refine Ends.cv l1 (by decide +kernel) (c_tie123 (a := a) (ou := none0) l1 (by omega) J1 (fun k hk => o1 k hk) ha) (fun h2 l2 _ _ _ ⟨g2, ρ, α, w, t, va, e18⟩ => ?_)
  refine Ends.eq (b110_9 (n := n) (by (repeat' first | assumption | refine LX.setF _ _ ?_ (by decide +kernel) | refine LX.setS ?_ rfl | refine LX.setA ?_ (by first | assumption | omega))) (by first | assumption | omega)) ?_
  have G2 : Agr (goW B) h h2 := (g1.sub (fun c k z => Or.inr (Or.inl z))).tr g2 (fun c k z => Or.inl z)
  have key : ∀ (r x : Nat) (q : AH), x + r = pl → LX B n q → Agr (fun c _ => c = B + 131) h2 q → (∀ k, k < x → hv q (B + 131) k = if ρ k = ρ i then 1 else 0) → Ends (ev PP (gsF gv) B d 110 14 [(2, rf (B + 118)), (0, (i : Int)), (0, (a : Int)), (0, ((cntN (fun k => decide (ρ k = ρ i)) x : Nat) : Int)), (0, (x : Int))] [] q) Q := by
    intro r
    induction r with
    | zero =>
      intro x q hx lq gq lo
      obtain rfl : x = pl := by omega
      have e3 : hv q (B + 118) 3 = (x : Int) := by rw [gq.at _ _ (by omega), G2.at _ _ (by unfold goW spW; omega)]; exact J.1
      have ei : hv q (B + 128) i = (ρ i : Int) := by rw [gq.at _ _ (by omega)]; exact (va i hi).1
      refine Ends.eq (b110_14 (n := n) (by (repeat' first | assumption | refine LX.setF _ _ ?_ (by decide +kernel) | refine LX.setS ?_ rfl | refine LX.setA ?_ (by first | assumption | omega))) (by first | assumption | omega)) ?_
      rw [e3, tn, ei]
      refine Ends.b3 (fun _ => Ends.g ⟨by omega, by omega⟩ (Ends.sm (K _ _ ⟨G2.tr gq (fun c k z => Or.inr (Or.inr z)), ρ, α, w, t, fun k hk => lo k hk, ?_⟩))) (fun z => by omega)
      rw [tst1]
      by_cases z : ρ i = 12
      · rw [if_pos z, decide_eq_true (show ((ρ i : Nat) : Int) = 12 by omega)]; rfl
      · rw [if_neg z, decide_eq_false (show ¬ ((ρ i : Nat) : Int) = 12 by omega)]; rfl
    | succ r ih =>
      intro x q hx lq gq lo
      have e3 : hv q (B + 118) 3 = (pl : Int) := by rw [gq.at _ _ (by omega), G2.at _ _ (by unfold goW spW; omega)]; exact J.1
      have ei : hv q (B + 128) i = (ρ i : Int) := by rw [gq.at _ _ (by omega)]; exact (va i hi).1
      have ex : hv q (B + 128) x = (ρ x : Int) := by rw [gq.at _ _ (by omega)]; exact (va x (by omega)).1
      have cl := cntN_le (fun k => decide (ρ k = ρ i)) x
      refine Ends.eq (b110_14 (n := n) (by (repeat' first | assumption | refine LX.setF _ _ ?_ (by decide +kernel) | refine LX.setS ?_ rfl | refine LX.setA ?_ (by first | assumption | omega))) (by first | assumption | omega)) ?_
      rw [e3, tn, tn, ei, ex]
      refine Ends.b3 (fun z => by omega) (fun _ => Ends.g ⟨by omega, by omega⟩ (Ends.g ⟨by omega, by omega⟩ (Ends.g ⟨by omega, by omega⟩ ?_)))
      have e1 : anar 3 (cond (tst 1 ((ρ x : Nat) : Int) ((ρ i : Nat) : Int)) 0 1) = if ρ x = ρ i then 1 else 0 := by
        rw [tst1]
        by_cases z : ρ x = ρ i
        · rw [z, decide_eq_true rfl, if_pos rfl]; rfl
        · rw [if_neg z, decide_eq_false (show ¬ ((ρ x : Nat) : Int) = ((ρ i : Nat) : Int) by omega)]; rfl
      have e2 : bop32 96 ((cntN (fun k => decide (ρ k = ρ i)) x : Nat) : Int) (cond (tst 0 (if ρ x = ρ i then (1 : Int) else 0) 0) 0 1) = ((cntN (fun k => decide (ρ k = ρ i)) (x + 1) : Nat) : Int) := by
        rw [cntN_s]
        by_cases z : ρ x = ρ i
        · rw [if_pos z, decide_eq_true z]
          exact b96_1 (by omega)
        · rw [if_neg z, decide_eq_false z]
          show bop32 96 _ 0 = _
          rw [add32 (by omega) (by omega)]
          simp
      rw [e1, hv_set_at, e2, w_succ (by omega)]
      refine ih (x + 1) _ (by omega) (LX.setS lq rfl) (gq.set rfl) (fun k hk => ?_)
      by_cases z : k = x
      · rw [z]; exact hv_set_at ..
      · rw [hv_set_ne (by omega)]; exact lo k (by omega)
  exact key pl 0 h2 (by omega) l2 Agr.rf (fun k hk => absurd hk (by omega))
def slW (B : Nat) : Nat → Nat → Prop := fun c k => goW B c k ∨ c = B + 120
theorem c_slide120 {y : Int} {old : Nat → Nat → Int} (l : LX B n h) (hd : 18 ≤ d) (J : AsJ B h pl jn ja jb jx js) (hi : i < pl) (ha : a < 3) (hs : ∀ x b, x < pl → b < 3 → hv h (B + 120) (3 * x + b) = old b x ∧ -1000000 ≤ old b x ∧ old b x ≤ 1000000) (hy : -1000 ≤ y ∧ y ≤ 1000) :
    Vt 0 (cll PP (ev PP (gsF gv) B) d 120 [(2, rf (B + 118)), (0, (i : Int)), (0, (a : Int)), (0, y)] h) (fun v h' => Agr (slW B) h h' ∧ ∃ ρ α w, TieR pl jn ja jb (eS jb js) (aC' jx none0 a) ρ α w ∧ (∀ x b, x < pl → b < 3 → hv h' (B + 120) (3 * x + b) = if b = a ∧ ρ i ≠ 12 ∧ ρ x = ρ i then old b x + y else old b x) ∧ v = if ρ i = 12 then 0 else ((cntN (fun k => decide (ρ k = ρ i)) pl : Nat) : Int)) := by
  have pl12 := J.2.2.1
  refine Vt.inq (D := 17) hd (Nat.le_of_ble_eq_true rfl) rfl (fun d hd Q K => ?_)
  refine Ends.eq (b120_0 (n := n) (by (repeat' first | assumption | refine LX.setF _ _ ?_ (by decide +kernel) | refine LX.setS ?_ rfl | refine LX.setA ?_ (by first | assumption | omega))) (by first | assumption | omega)) ?_
  refine Ends.ct l (by decide +kernel) (by decide) (c_going110 (a := a) (i := i) l (by omega) J hi ha) (fun v h1 l1 _ _ _ ⟨g1, ρ, α, w, t, vg, evv⟩ => ?_)
  refine Ends.eq (b120_6 (n := n) (by (repeat' first | assumption | refine LX.setF _ _ ?_ (by decide +kernel) | refine LX.setS ?_ rfl | refine LX.setA ?_ (by first | assumption | omega))) (by first | assumption | omega)) ?_
  have sh1 : ∀ x b, x < pl → b < 3 → hv h1 (B + 120) (3 * x + b) = old b x := fun x b hx hb => by rw [g1.at _ _ (by unfold goW spW; omega)]; exact (hs x b hx hb).1
  have G1 : Agr (slW B) h h1 := g1.sub (fun c k z => Or.inl z)
  have cpos : ρ i ≠ 12 → 0 < v := fun z => by
    rw [evv, if_neg z]
    have := cntN_zero (S := fun k => decide (ρ k = ρ i)) pl
    by_cases y0 : cntN (fun k => decide (ρ k = ρ i)) pl = 0
    · have := this y0 i hi
      simp at this
    · omega
  have fin : ∀ (q : AH) (x5 : Int), LX B n q → Agr (slW B) h q → (∀ x b, x < pl → b < 3 → hv q (B + 120) (3 * x + b) = if b = a ∧ ρ i ≠ 12 ∧ ρ x = ρ i then old b x + y else old b x) → Ends (ev PP (gsF gv) B d 120 56 [(2, rf (B + 118)), (0, (i : Int)), (0, (a : Int)), (0, y), (0, v), (0, x5)] [] q) Q := fun q x5 lq gq sq => by
    refine Ends.eq (b120_56 (n := n) (by (repeat' first | assumption | refine LX.setF _ _ ?_ (by decide +kernel) | refine LX.setS ?_ rfl | refine LX.setA ?_ (by first | assumption | omega))) (by first | assumption | omega)) ?_
    exact Ends.sm (K _ _ ⟨gq, ρ, α, w, t, sq, evv⟩)
  by_cases h12 : ρ i = 12
  · have v0 : v = 0 := by rw [evv, if_pos h12]
    refine Ends.eq (b120_11 (n := n) (by (repeat' first | assumption | refine LX.setF _ _ ?_ (by decide +kernel) | refine LX.setS ?_ rfl | refine LX.setA ?_ (by first | assumption | omega))) (by first | assumption | omega)) ?_
    have nn : ∀ x b, x < pl → b < 3 → hv h1 (B + 120) (3 * x + b) = if b = a ∧ ρ i ≠ 12 ∧ ρ x = ρ i then old b x + y else old b x := fun x b hx hb => by rw [if_neg (fun z => z.2.1 h12)]; exact sh1 x b hx hb
    refine Ends.b3 (fun _ => fin h1 _ l1 G1 nn) (fun _ => Ends.b5 (fun z => ?_) (fun _ => ?_))
    · exact fin h1 _ l1 G1 nn
    · omega
  have vp := cpos h12
  have key : ∀ (r x : Nat) (q : AH), x + r = pl → LX B n q → Agr (fun c _ => c = B + 120) h1 q → (∀ k b, k < pl → b < 3 → hv q (B + 120) (3 * k + b) = if b = a ∧ ρ k = ρ i ∧ k < x then old b k + y else old b k) → Ends (ev PP (gsF gv) B d 120 11 [(2, rf (B + 118)), (0, (i : Int)), (0, (a : Int)), (0, y), (0, v), (0, (x : Int))] [] q) Q := by
    intro r
    induction r with
    | zero =>
      intro x q hx lq gq lo
      have e3 : hv q (B + 118) 3 = (pl : Int) := by rw [gq.at _ _ (by omega), G1.at _ _ (by unfold slW goW spW; omega)]; exact J.1
      refine Ends.eq (b120_11 (n := n) (by (repeat' first | assumption | refine LX.setF _ _ ?_ (by decide +kernel) | refine LX.setS ?_ rfl | refine LX.setA ?_ (by first | assumption | omega))) (by first | assumption | omega)) ?_
      rw [e3]
      refine Ends.b3 (fun _ => fin q _ lq (G1.tr gq (fun c k z => Or.inr z)) (fun k b hk hb => ?_)) (fun z => by omega)
      rw [lo k b hk hb]
      by_cases z : b = a ∧ ρ k = ρ i
      · rw [if_pos ⟨z.1, z.2, by omega⟩, if_pos ⟨z.1, h12, z.2⟩]
      · rw [if_neg (fun y => z ⟨y.1, y.2.1⟩), if_neg (fun y => z ⟨y.1, y.2.2⟩)]
    | succ r ih =>
      intro x q hx lq gq lo
      have hxp : x < pl := by omega
      have e3 : hv q (B + 118) 3 = (pl : Int) := by rw [gq.at _ _ (by omega), G1.at _ _ (by unfold slW goW spW; omega)]; exact J.1
      have eg : hv q (B + 131) x = if ρ x = ρ i then 1 else 0 := by rw [gq.at _ _ (by omega)]; exact vg x hxp
      have nx : ∀ q4, LX B n q4 → Agr (fun c _ => c = B + 120) h1 q4 → (∀ k b, k < pl → b < 3 → hv q4 (B + 120) (3 * k + b) = if b = a ∧ ρ k = ρ i ∧ k < x + 1 then old b k + y else old b k) → Ends (ev PP (gsF gv) B d 120 50 [(2, rf (B + 118)), (0, (i : Int)), (0, (a : Int)), (0, y), (0, v), (0, (x : Int))] [] q4) Q := fun q4 l4 g4 lo4 => by
        refine Ends.eq (b120_50 (n := n) (by (repeat' first | assumption | refine LX.setF _ _ ?_ (by decide +kernel) | refine LX.setS ?_ rfl | refine LX.setA ?_ (by first | assumption | omega))) (by first | assumption | omega)) ?_
        rw [w_succ (by omega)]
        exact ih (x + 1) q4 (by omega) l4 g4 lo4
      refine Ends.eq (b120_11 (n := n) (by (repeat' first | assumption | refine LX.setF _ _ ?_ (by decide +kernel) | refine LX.setS ?_ rfl | refine LX.setA ?_ (by first | assumption | omega))) (by first | assumption | omega)) ?_
      rw [e3, tn, eg]
      refine Ends.b3 (fun z => by omega) (fun _ => Ends.b5 (fun z => by omega) (fun _ => Ends.g ⟨by omega, by omega⟩ ?_))
      by_cases hr : ρ x = ρ i
      · rw [if_pos hr]
        refine Ends.b0 (fun z => absurd z (by decide)) (fun _ => ?_)
        rw [show bop32 96 (bop32 104 3 (x : Int)) (a : Int) = ((3 * x + a : Nat) : Int) from by rw [show bop32 104 (3 : Int) (x : Int) = ((3 * x : Nat) : Int) from mulNN (x := 3) (by omega), addNN (by omega)], tn, an0, lo x a hxp ha, if_neg (by omega)]
        have ob := (hs x a hxp ha).2
        rw [add32 (by omega) (by omega)]
        refine Ends.g ⟨by omega, by omega⟩ (nx _ (LX.setS lq rfl) (gq.set rfl) (fun k b hk hb => ?_))
        by_cases z : k = x ∧ b = a
        · rw [z.1, z.2, hv_set_at, if_pos ⟨rfl, hr, by omega⟩]
        · rw [hv_set_ne (by omega), lo k b hk hb]
          by_cases z2 : b = a ∧ ρ k = ρ i ∧ k < x
          · rw [if_pos z2, if_pos ⟨z2.1, z2.2.1, by omega⟩]
          · rw [if_neg z2, if_neg (fun z3 => z2 ⟨z3.1, z3.2.1, by have := z3.2.2; have := z3.1; omega⟩)]
      · rw [if_neg hr]
        refine Ends.b0 (fun _ => nx q lq gq (fun k b hk hb => ?_)) (fun z => absurd rfl z)
        rw [lo k b hk hb]
        by_cases z2 : b = a ∧ ρ k = ρ i ∧ k < x
        · rw [if_pos z2, if_pos ⟨z2.1, z2.2.1, by omega⟩]
        · rw [if_neg z2, if_neg (fun z3 => z2 ⟨z3.1, z3.2.1, by
            by_cases y2 : k = x
            · rw [y2] at z3; exact absurd z3.2.1 hr
            · have := z3.2.2; omega⟩)]
  exact key pl 0 h1 (by omega) l1 Agr.rf (fun k b hk hb => by rw [if_neg (by omega)]; exact sh1 k b hk hb)
def leW (B : Nat) : Nat → Nat → Prop := fun c k => spW B c k ∨ c = B + 130
/-- what least answers -/
def LeS (jn : Nat) (ja jb jx : Nat → Nat) (js : Nat → Int) (k x : Int) : Prop := ((k < 0 ∨ TiAll jn ja jb jx js none0) ∧ x = -1) ∨ (0 ≤ k ∧ ¬ TiAll jn ja jb jx js none0 ∧ ∃ K, Fil (TiAll jn ja jb jx js) jn jn K ∧ NthF K jn k x)
theorem LeS.uniq {k x y : Int} (a : LeS jn ja jb jx js k x) (b : LeS jn ja jb jx js k y) : x = y := by
  rcases a with ⟨a1, a2⟩ | ⟨a1, a2, K, a3, a4⟩ <;> rcases b with ⟨b1, b2⟩ | ⟨b1, b2, L, b3, b4⟩
  · omega
  · rcases a1 with a1 | a1
    · omega
    · exact absurd a1 b2
  · rcases b1 with b1 | b1
    · omega
    · exact absurd b1 a2
  · have e : K = L := funext (Fil.uniq a3 b3)
    subst e
    exact a4.uniq b4
theorem c_least115 {k : Int} (l : LX B n h) (hd : 16 ≤ d) (hk32 : -2147483648 ≤ k ∧ k < 2147483648) (J : AsJ B h pl jn ja jb jx js) :
    Vt 0 (cll PP (ev PP (gsF gv) B) d 115 [(2, rf (B + 118)), (0, k)] h) (fun x h' => Agr (leW B) h h' ∧ LeS jn ja jb jx js k x) := by
  have jn24 := J.2.2.2.1
  refine Vt.inq (D := 15) hd (Nat.le_of_ble_eq_true rfl) rfl (fun d hd Q KK => ?_)
  refine Ends.eq (b115_0 (n := n) (by (repeat' first | assumption | refine LX.setF _ _ ?_ (by decide +kernel) | refine LX.setS ?_ rfl | refine LX.setA ?_ (by first | assumption | omega))) (by first | assumption | omega)) ?_
  refine Ends.cv l (by decide +kernel) (c_allIn106 l (by omega)) (fun h1 l1 _ _ _ ⟨g1, o1⟩ => ?_)
  have Jm : ∀ q, Agr (leW B) h q → AsJ B q pl jn ja jb jx js := fun q g => J.agr g (by unfold leW spW; omega) (by unfold leW spW; omega) (fun c k h1 h2 => by unfold leW spW; omega)
  have G1 : Agr (leW B) h h1 := g1.sub (fun c k z => Or.inr z)
  have out : ∀ q (u2 u3 : AV), Agr (leW B) h q → LX B n q → (k < 0 ∨ TiAll jn ja jb jx js none0) → Ends (ev PP (gsF gv) B d 115 15 [(2, rf (B + 118)), (0, k), u2, u3] [] q) Q := fun q u2 u3 g lq z => by
    refine Ends.eq (b115_15 (n := n) (by (repeat' first | assumption | refine LX.setF _ _ ?_ (by decide +kernel) | refine LX.setS ?_ rfl | refine LX.setA ?_ (by first | assumption | omega))) (by first | assumption | omega)) ?_
    exact Ends.sm (KK _ _ ⟨g, Or.inl ⟨z, rfl⟩⟩)
  refine Ends.eq (b115_4 (n := n) (by (repeat' first | assumption | refine LX.setF _ _ ?_ (by decide +kernel) | refine LX.setS ?_ rfl | refine LX.setA ?_ (by first | assumption | omega))) (by first | assumption | omega)) ?_
  refine Ends.b2 (fun z => out _ _ _ G1 l1 (Or.inl z)) (fun k0 => ?_)
  refine Ends.ct l1 (by decide +kernel) (by decide) (c_canHold108 (ou := none0) l1 (by omega) (Jm _ G1) (fun k hk => o1 k hk)) (fun x h2 l2 _ _ _ ⟨g2, ex⟩ => ?_)
  have G2 : Agr (leW B) h h2 := G1.tr g2 (fun c k z => Or.inl z)
  have o2 : ∀ k, k < 24 → hv h2 (B + 130) k = 0 := fun k hk => by rw [g2.at _ _ (by unfold spW; omega)]; exact o1 k hk
  refine Ends.eq (b115_12 (n := n) (by (repeat' first | assumption | refine LX.setF _ _ ?_ (by decide +kernel) | refine LX.setS ?_ rfl | refine LX.setA ?_ (by first | assumption | omega))) (by first | assumption | omega)) ?_
  rcases ex with ⟨rfl, sat⟩ | ⟨rfl, sat⟩
  · exact Ends.b0 (fun z => absurd z (by decide)) (fun _ => out _ _ _ G2 l2 (Or.inr sat))
  refine Ends.b0 (fun _ => ?_) (fun z => absurd rfl z)
  rw [(Jm _ G2).2.1]
  -- the search behind the filter
  have find : ∀ (q : AH) (K : Nat → Bool) , Agr (leW B) h q → (∀ j, j < 24 → hv q (B + 130) j = if K j = true then 1 else 0) → Fil (TiAll jn ja jb jx js) jn jn K → ∀ (r i : Nat) , i + r = jn → LX B n q → ((cntN (fun j => !K j) i : Nat) : Int) ≤ k → Ends (ev PP (gsF gv) B d 115 59 [(2, rf (B + 118)), (0, k), (0, k - ((cntN (fun j => !K j) i : Nat) : Int)), (0, (i : Int))] [] q) Q := by
    intro q K gq oq fl r
    induction r with
    | zero =>
      intro i hi lq hc
      obtain rfl : i = jn := by omega
      refine Ends.eq (b115_59 (n := n) (by (repeat' first | assumption | refine LX.setF _ _ ?_ (by decide +kernel) | refine LX.setS ?_ rfl | refine LX.setA ?_ (by first | assumption | omega))) (by first | assumption | omega)) ?_
      rw [(Jm _ gq).2.1]
      exact Ends.b3 (fun _ => Ends.sm (KK _ _ ⟨gq, Or.inr ⟨k0, sat, K, fl, Or.inr ⟨rfl, hc⟩⟩⟩)) (fun z => by omega)
    | succ r ih =>
      intro i hi lq hc
      refine Ends.eq (b115_59 (n := n) (by (repeat' first | assumption | refine LX.setF _ _ ?_ (by decide +kernel) | refine LX.setS ?_ rfl | refine LX.setA ?_ (by first | assumption | omega))) (by first | assumption | omega)) ?_
      rw [(Jm _ gq).2.1, tn, oq i (by omega)]
      refine Ends.b3 (fun z => by omega) (fun _ => Ends.g ⟨by omega, by omega⟩ ?_)
      have cl := cntN_le (fun j => !K j) i
      cases e : K i
      · refine Ends.b0 (fun _ => Ends.b1 (fun z => ?_) (fun z => ?_)) (fun z => absurd rfl z)
        · refine Ends.eq (b115_88 (n := n) (by (repeat' first | assumption | refine LX.setF _ _ ?_ (by decide +kernel) | refine LX.setS ?_ rfl | refine LX.setA ?_ (by first | assumption | omega))) (by first | assumption | omega)) ?_
          rw [w_succ (by omega), show w32 (k - ((cntN (fun j => !K j) i : Nat) : Int) + (-1)) = k - ((cntN (fun j => !K j) (i + 1) : Nat) : Int) from by
            rw [inc32 (by omega) (by omega), cntN_s, e]
            simp
            omega]
          refine ih (i + 1) (by omega) lq ?_
          rw [cntN_s, e]
          simp
          omega
        · refine Ends.sm (KK _ _ ⟨gq, Or.inr ⟨k0, sat, K, fl, Or.inl ⟨i, by omega, e, rfl, by omega⟩⟩⟩)
      · refine Ends.b0 (fun z => absurd z (by decide)) (fun _ => ?_)
        refine Ends.eq (b115_88 (n := n) (by (repeat' first | assumption | refine LX.setF _ _ ?_ (by decide +kernel) | refine LX.setS ?_ rfl | refine LX.setA ?_ (by first | assumption | omega))) (by first | assumption | omega)) ?_
        have ec : cntN (fun j => !K j) (i + 1) = cntN (fun j => !K j) i := by rw [cntN_s, e]; rfl
        rw [w_succ (by omega), ← ec]
        exact ih (i + 1) (by omega) lq (by rw [ec]; exact hc)
  have filt : ∀ (c r : Nat) (q : AH) (K : Nat → Bool) (u3 : AV), r + c = jn → LX B n q → Agr (leW B) h q → (∀ j, j < 24 → hv q (B + 130) j = if K j = true then 1 else 0) → Fil (TiAll jn ja jb jx js) jn r K → (∀ j, K j = true → c ≤ j) → Ends (ev PP (gsF gv) B d 115 24 [(2, rf (B + 118)), (0, k), (0, (c : Int) - 1), u3] [] q) Q := by
    intro c
    induction c with
    | zero =>
      intro r q K u3 hr lq gq oq fl hK
      obtain rfl : r = jn := by omega
      refine Ends.eq (b115_24 (n := n) (by (repeat' first | assumption | refine LX.setF _ _ ?_ (by decide +kernel) | refine LX.setS ?_ rfl | refine LX.setA ?_ (by first | assumption | omega))) (by first | assumption | omega)) ?_
      refine Ends.b2 (fun _ => ?_) (fun z => by omega)
      have := find q K gq oq fl r 0 (by omega) lq (by show ((0 : Nat) : Int) ≤ k; omega)
      rw [show k - ((cntN (fun j => !K j) 0 : Nat) : Int) = k from by show k - ((0 : Nat) : Int) = k; omega] at this
      exact this
    | succ c ih =>
      intro r q K u3 hr lq gq oq fl hK
      have ec : ((c + 1 : Nat) : Int) - 1 = (c : Int) := by omega
      rw [ec]
      refine Ends.eq (b115_24 (n := n) (by (repeat' first | assumption | refine LX.setF _ _ ?_ (by decide +kernel) | refine LX.setS ?_ rfl | refine LX.setA ?_ (by first | assumption | omega))) (by first | assumption | omega)) ?_
      rw [tn]
      refine Ends.b2 (fun z => by omega) (fun _ => Ends.g ⟨by omega, by omega⟩ ?_)
      have l3 : LX B n (hset q (B + 130) c (anar 3 1)) := LX.setS lq rfl
      have g3 : Agr (leW B) h (hset q (B + 130) c (anar 3 1)) := gq.set (Or.inr rfl)
      have o3 : ∀ j, j < 24 → hv (hset q (B + 130) c (anar 3 1)) (B + 130) j = if (K j || decide (j = jn - 1 - r)) = true then 1 else 0 := fun j hj => by
        have : jn - 1 - r = c := by omega
        rw [this]
        by_cases z : j = c
        · rw [z, hv_set_at]; simp; rfl
        · rw [hv_set_ne (by omega), oq j hj]; simp [z]
      refine Ends.ct l3 (by decide +kernel) (by decide) (c_canHold108 (ou := fun j => K j || decide (j = jn - 1 - r)) l3 (by omega) (Jm _ g3) o3) (fun x h4 l4 _ _ _ ⟨g4, ex⟩ => ?_)
      have G4 := g3.tr g4 (fun c k z => Or.inl z)
      have o4 : ∀ j, j < 24 → hv h4 (B + 130) j = if (K j || decide (j = jn - 1 - r)) = true then 1 else 0 := fun j hj => by rw [g4.at _ _ (by unfold spW; omega)]; exact o3 j hj
      refine Ends.eq (b115_39 (n := n) (by (repeat' first | assumption | refine LX.setF _ _ ?_ (by decide +kernel) | refine LX.setS ?_ rfl | refine LX.setA ?_ (by first | assumption | omega))) (by first | assumption | omega)) ?_
      rcases ex with ⟨rfl, s4⟩ | ⟨rfl, s4⟩
      · refine Ends.b0 (fun z => absurd z (by decide)) (fun _ => Ends.g ⟨by omega, by omega⟩ ?_)
        have l5 : LX B n (hset h4 (B + 130) (Int.toNat (c : Int)) (anar 3 0)) := LX.setS l4 rfl
        refine Ends.eq (b115_49 (n := n) (by (repeat' first | assumption | refine LX.setF _ _ ?_ (by decide +kernel) | refine LX.setS ?_ rfl | refine LX.setA ?_ (by first | assumption | omega))) (by first | assumption | omega)) ?_
        rw [tn] at l5 ⊢
        rw [show w32 ((c : Int) + (-1)) = (c : Int) - 1 from by rw [inc32 (by omega) (by omega)]; omega]
        refine ih (r + 1) _ K _ (by omega) l5 (G4.set (Or.inr rfl)) (fun j hj => ?_) ⟨K, fl, Or.inl ⟨s4, fun _ => rfl⟩⟩ (fun j e => by have := hK j e; omega)
        have kc : K c = false := by
          cases e : K c
          · rfl
          · have := hK c e; omega
        by_cases z : j = c
        · rw [z, hv_set_at, kc]; rfl
        · rw [hv_set_ne (by omega), o4 j hj]
          have : ¬ j = jn - 1 - r := by omega
          simp [this]
      · refine Ends.b0 (fun _ => ?_) (fun z => absurd rfl z)
        refine Ends.eq (b115_49 (n := n) (by (repeat' first | assumption | refine LX.setF _ _ ?_ (by decide +kernel) | refine LX.setS ?_ rfl | refine LX.setA ?_ (by first | assumption | omega))) (by first | assumption | omega)) ?_
        rw [show w32 ((c : Int) + (-1)) = (c : Int) - 1 from by rw [inc32 (by omega) (by omega)]; omega]
        refine ih (r + 1) _ _ _ (by omega) l4 G4 o4 ⟨K, fl, Or.inr ⟨s4, fun _ => rfl⟩⟩ (fun j e => ?_)
        by_cases z : j = jn - 1 - r
        · omega
        · simp [z] at e
          have := hK j e
          omega
  have e1 : bop32 100 (jn : Int) 1 = (jn : Int) - 1 := sub32 (by omega) (by omega)
  rw [e1]
  exact filt jn 0 h2 (fun _ => false) _ (by omega) l2 G2 (fun j hj => by rw [o2 j hj]; rfl) (fun _ => rfl) (fun j e => absurd e Bool.false_ne_true)
end GOING
