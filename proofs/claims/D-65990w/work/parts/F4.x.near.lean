/-! L3: places near lines (both sides) -/
noncomputable section NRL
variable {gv : Nat → Int} {B n d i b p : Nat} {h : AH} {lv : Nat → Bool} {U0 V0 U1 V1 DU DV SZ : Nat → Int} {k m l : Nat} {u v s p0 p1 r0 r1 : Int}
/-- near a line -/
def nrZ (p0 p1 r0 r1 u v s : Int) : Prop := ((8 * min p0 r0 - s ≤ u ∧ u ≤ 8 * max p0 r0 + s) ∧ 8 * min p1 r1 - s ≤ v ∧ v ≤ 8 * max p1 r1 + s) ∧ (p0 = r0 ∨ p1 = r1 ∨ (r0 - p0 = r1 - p1 ∧ -(2 * s) ≤ v - u - 8 * (p1 - p0) ∧ v - u - 8 * (p1 - p0) ≤ 2 * s) ∨ (r0 - p0 ≠ r1 - p1 ∧ -(2 * s) ≤ v + u - 8 * (p1 + p0) ∧ v + u - 8 * (p1 + p0) ≤ 2 * s))
set_option maxHeartbeats 2000000 in
theorem v704_is (L : LnMs B h i p0 p1 r0 r1) (hi : i < 24) (b0 : in64 p0) (b1 : in64 p1) (b2 : in64 r0) (b3 : in64 r1) (bu : -2000 ≤ u ∧ u ≤ 2000) (bv : -2000 ≤ v ∧ v ≤ 2000) (bs : 0 ≤ s ∧ s ≤ 10000) : q704 B h (i : Int) u v s ∧ ((v704 B h (i : Int) u v s = 1 ∧ nrZ p0 p1 r0 r1 u v s) ∨ (v704 B h (i : Int) u v s = 0 ∧ ¬ nrZ p0 p1 r0 r1 u v s)) := by
  unfold in64 at *
  obtain ⟨a1, a2, a3, a4⟩ := L
  refine ⟨⟨by omega, by omega⟩, ?_⟩
  have e1 : bop32 100 (bop32 104 8 (v892 p0 r0)) s = 8 * min p0 r0 - s := by
    rw [v892_is, mul32 (x := 8) (y := min p0 r0) (by omega) (by omega)]
    exact sub32 (by omega) (by omega)
  have e2 : bop32 96 (bop32 104 8 (v891 p0 r0)) s = 8 * max p0 r0 + s := by
    rw [v891_is, mul32 (x := 8) (y := max p0 r0) (by omega) (by omega)]
    exact add32 (by omega) (by omega)
  have e3 : bop32 100 (bop32 104 8 (v892 p1 r1)) s = 8 * min p1 r1 - s := by
    rw [v892_is, mul32 (x := 8) (y := min p1 r1) (by omega) (by omega)]
    exact sub32 (by omega) (by omega)
  have e4 : bop32 96 (bop32 104 8 (v891 p1 r1)) s = 8 * max p1 r1 + s := by
    rw [v891_is, mul32 (x := 8) (y := max p1 r1) (by omega) (by omega)]
    exact add32 (by omega) (by omega)
  have e5 : bop32 100 r0 p0 = r0 - p0 := sub32 (by omega) (by omega)
  have e6 : bop32 100 r1 p1 = r1 - p1 := sub32 (by omega) (by omega)
  have e7 : bop32 100 (bop32 96 v u) (bop32 104 8 (bop32 96 p1 p0)) = v + u - 8 * (p1 + p0) := by
    rw [add32 (x := v) (y := u) (by omega) (by omega), add32 (x := p1) (y := p0) (by omega) (by omega), mul32 (x := 8) (y := p1 + p0) (by omega) (by omega)]
    exact sub32 (by omega) (by omega)
  have e8 : bop32 100 (bop32 100 v u) (bop32 104 8 (bop32 100 p1 p0)) = v - u - 8 * (p1 - p0) := by
    rw [sub32 (x := v) (y := u) (by omega) (by omega), sub32 (x := p1) (y := p0) (by omega) (by omega), mul32 (x := 8) (y := p1 - p0) (by omega) (by omega)]
    exact sub32 (by omega) (by omega)
  have e9 : bop32 104 2 s = 2 * s := mul32 (by omega) (by omega)
  have e10 : bop32 104 (-2) s = -2 * s := mul32 (by omega) (by omega)
  unfold v704
  simp only [tn]
  rw [a1, a2, a3, a4, e1, e2, e3, e4, e5, e6, e7, e8, e9, e10]
  clear e1 e2 e3 e4 e5 e6 e7 e8 e9 e10
  unfold nrZ
  simp only [ct0, ct1, ct2, ct4, ct5]
  by_cases c1 : u < 8 * min p0 r0 - s
  · rw [if_pos c1]; exact Or.inr ⟨rfl, by omega⟩
  rw [if_neg c1]
  by_cases c2 : 8 * max p0 r0 + s < u
  · rw [if_pos c2]; exact Or.inr ⟨rfl, by omega⟩
  rw [if_neg c2]
  by_cases c3 : v < 8 * min p1 r1 - s
  · rw [if_pos c3]; exact Or.inr ⟨rfl, by omega⟩
  rw [if_neg c3]
  by_cases c4 : 8 * max p1 r1 + s < v
  · rw [if_pos c4]; exact Or.inr ⟨rfl, by omega⟩
  rw [if_neg c4]
  by_cases c5 : p0 = r0
  · rw [if_pos c5]; exact Or.inl ⟨rfl, by omega⟩
  rw [if_neg c5]
  by_cases c6 : p1 = r1
  · rw [if_pos c6]; exact Or.inl ⟨rfl, by omega⟩
  rw [if_neg c6]
  by_cases c7 : r0 - p0 = r1 - p1
  · rw [if_pos c7, if_neg (show ¬ (1 : Int) = 0 by decide)]
    by_cases c8 : 2 * s < v - u - 8 * (p1 - p0)
    · rw [if_pos c8]; exact Or.inr ⟨rfl, by omega⟩
    rw [if_neg c8]
    by_cases c9 : v - u - 8 * (p1 - p0) < -2 * s
    · rw [if_pos c9]; exact Or.inr ⟨rfl, by omega⟩
    · rw [if_neg c9]; exact Or.inl ⟨rfl, by omega⟩
  · rw [if_neg c7, if_pos rfl]
    by_cases c8 : 2 * s < v + u - 8 * (p1 + p0)
    · rw [if_pos c8]; exact Or.inr ⟨rfl, by omega⟩
    rw [if_neg c8]
    by_cases c9 : v + u - 8 * (p1 + p0) < -2 * s
    · rw [if_pos c9]; exact Or.inr ⟨rfl, by omega⟩
    · rw [if_neg c9]; exact Or.inl ⟨rfl, by omega⟩
/-- near one of the lines -/
def nrP (lv : Nat → Bool) (U0 V0 U1 V1 : Nat → Int) (u v s : Int) : Prop := ∃ k, lv k = true ∧ nrZ (U0 k) (V0 k) (U1 k) (V1 k) u v s
def nrB (lv : Nat → Bool) (U0 V0 U1 V1 : Nat → Int) (u v s : Int) : Bool := @decide (nrP lv U0 V0 U1 V1 u v s) (Classical.propDecidable _)
theorem nrB_t (z : nrP lv U0 V0 U1 V1 u v s) : nrB lv U0 V0 U1 V1 u v s = true := by unfold nrB; exact @decide_eq_true _ (Classical.propDecidable _) z
theorem nrB_f (z : ¬ nrP lv U0 V0 U1 V1 u v s) : nrB lv U0 V0 U1 V1 u v s = false := by unfold nrB; exact @decide_eq_false _ (Classical.propDecidable _) z
theorem c_isNearLine705 (l : LX B n h) (hd : 10 ≤ d) (Sm : SgM B h lv U0 V0 U1 V1) (bl : BdL lv U0 V0 U1 V1) (hl : ∀ k, lv k = true → k < 24) (bu : -2000 ≤ u ∧ u ≤ 2000) (bv : -2000 ≤ v ∧ v ≤ 2000) (bs : 0 ≤ s ∧ s ≤ 1000) : Vt 0 (cll PP (ev PP (gsF gv) B) d 705 [(2, rf (B + 149)), (0, u), (0, v), (0, s)] h) (fun x h' => h' = h ∧ x = b2i (nrB lv U0 V0 U1 V1 u v (8 * s))) := by
  refine Vt.inq (D := 9) hd (Nat.le_of_ble_eq_true rfl) rfl (fun d hd Q K => ?_)
  have c24 : cntN lv 24 ≤ 24 := cntN_le _ _
  have e1 : bop32 104 8 s = 8 * s := mul32 (by omega) (by omega)
  have key : ∀ (r i : Nat), i + r = cntN lv 24 → (∀ k, lv k = true → cntN lv k < i → ¬ nrZ (U0 k) (V0 k) (U1 k) (V1 k) u v (8 * s)) → Ends (ev PP (gsF gv) B d 705 3 [(2, rf (B + 149)), (0, u), (0, v), (0, s), (0, (i : Int))] [] h) Q := by
    intro r
    induction r with
    | zero =>
      intro i ei no
      obtain rfl : i = cntN lv 24 := by omega
      refine Ends.eq (b705_3 (n := n) (by (repeat' first | assumption | refine LX.setF _ _ ?_ (by decide +kernel) | refine LX.setS ?_ rfl | refine LX.setA ?_ (by first | assumption | omega))) (by first | assumption | omega)) ?_
      rw [Sm.1]
      refine Ends.b3 (fun _ => Ends.sm (K _ _ ⟨rfl, ?_⟩)) (fun z => absurd z (Int.lt_irrefl _))
      rw [nrB_f (fun ⟨k, lk, z⟩ => no k lk (cnt_ltl (hl k lk) lk) z)]; rfl
    | succ r ih =>
      intro i ei no
      obtain ⟨k, hk, lk, ck⟩ := cnt_at (S := lv) 24 i (by omega)
      obtain ⟨y1, y2, y3, y4⟩ := Sm.2 k hk lk
      rw [ck] at y1 y2 y3 y4
      have bk := bl k lk
      obtain ⟨qa, va⟩ := v704_is (s := 8 * s) (⟨y1, y2, y3, y4⟩ : LnMs B h i (U0 k) (V0 k) (U1 k) (V1 k)) (by omega) bk.1.1 bk.1.2 bk.2.1 bk.2.2 bu bv (by omega)
      refine Ends.eq (b705_3 (n := n) (by (repeat' first | assumption | refine LX.setF _ _ ?_ (by decide +kernel) | refine LX.setS ?_ rfl | refine LX.setA ?_ (by first | assumption | omega))) (by first | assumption | omega)) ?_
      rw [Sm.1, e1, w_succ (by omega)]
      refine Ends.b3 (fun z => absurd z (by omega)) (fun _ => Ends.g qa ?_)
      rcases va with ⟨va, z⟩ | ⟨va, z⟩
      · rw [va]
        refine Ends.b0 (fun z => absurd z (by decide)) (fun _ => Ends.sm (K _ _ ⟨rfl, ?_⟩))
        rw [nrB_t ⟨k, lk, z⟩]; rfl
      · rw [va]
        refine Ends.b0 (fun _ => ih (i + 1) (by omega) (fun j lj cj => ?_)) (fun z => absurd rfl z)
        rcases (by omega : cntN lv j < i ∨ cntN lv j = i) with y | y
        · exact no j lj y
        · rw [cnt_inj lj lk (y.trans ck.symm)]; exact z
  refine Ends.eq (b705_0 (n := n) (by (repeat' first | assumption | refine LX.setF _ _ ?_ (by decide +kernel) | refine LX.setS ?_ rfl | refine LX.setA ?_ (by first | assumption | omega))) (by first | assumption | omega)) ?_
  exact key (cntN lv 24) 0 (by omega) (fun _ _ cj => absurd cj (Nat.not_lt_zero _))
/-- the desk's way to say it -/
theorem nr_iff (G : SgK n U0 V0 U1 V1 DU DV SZ k) (bs : 0 ≤ s) : nrZ (U0 k) (V0 k) (U1 k) (V1 k) u v s ↔ (DU k = 0 → -s ≤ u - 8 * U0 k ∧ u - 8 * U0 k ≤ s) ∧ (DV k = 0 → -s ≤ v - 8 * V0 k ∧ v - 8 * V0 k ≤ s) ∧ (DU k ≠ 0 → DU k * (u - 8 * U0 k) - s ≤ 8 * SZ k ∧ 0 ≤ DU k * (u - 8 * U0 k) + s) ∧ (DV k ≠ 0 → DV k * (v - 8 * V0 k) - s ≤ 8 * SZ k ∧ 0 ≤ DV k * (v - 8 * V0 k) + s) ∧ (DU k ≠ 0 → DV k ≠ 0 → DU k * (u - 8 * U0 k) - s ≤ DV k * (v - 8 * V0 k) + s ∧ DV k * (v - 8 * V0 k) - s ≤ DU k * (u - 8 * U0 k) + s) := by
  obtain ⟨⟨⟨h1, h2, h3⟩, hs⟩, ⟨e1, e2⟩, -⟩ := G
  unfold nrZ
  rcases h1 with h1 | h1 | h1 <;> rcases h2 with h2 | h2 | h2 <;> rw [h1] at e1 ⊢ <;> rw [h2] at e2 ⊢ <;> omega
set_option maxHeartbeats 2000000 in
theorem c_isNear412 (l : LX B n h) (n64 : n ≤ 64) (hd : 10 ≤ d) (Sg : SgD B h lv U0 V0 U1 V1) (hG : ∀ k, lv k = true → SgK n U0 V0 U1 V1 DU DV SZ k ∧ hv h (B + 73) k = DU k ∧ hv h (B + 74) k = DV k ∧ hv h (B + 75) k = SZ k) (hl : ∀ k, lv k = true → k < 24) (bu : -2000 ≤ u ∧ u ≤ 2000) (bv : -2000 ≤ v ∧ v ≤ 2000) (bs : 0 ≤ s ∧ s ≤ 8000) : Vt 0 (cll PP (ev PP (gsF gv) B) d 412 [(2, rf (B + 56)), (0, u), (0, v), (0, s)] h) (fun x h' => h' = h ∧ x = b2i (nrB lv U0 V0 U1 V1 u v s)) := by
  refine Vt.inq (D := 9) hd (Nat.le_of_ble_eq_true rfl) rfl (fun d hd Q K => ?_)
  have key : ∀ (r k : Nat) (u5 u6 u7 u8 : AV), k + r = 24 → (∀ j, lv j = true → j < k → ¬ nrZ (U0 j) (V0 j) (U1 j) (V1 j) u v s) → Ends (ev PP (gsF gv) B d 412 3 [(2, rf (B + 56)), (0, u), (0, v), (0, s), (0, (k : Int)), u5, u6, u7, u8] [] h) Q := by
    intro r
    induction r with
    | zero =>
      intro k u5 u6 u7 u8 ek no
      obtain rfl : k = 24 := by omega
      refine Ends.eq (b412_3 (n := n) (by (repeat' first | assumption | refine LX.setF _ _ ?_ (by decide +kernel) | refine LX.setS ?_ rfl | refine LX.setA ?_ (by first | assumption | omega))) (by first | assumption | omega)) ?_
      refine Ends.b3 (fun _ => Ends.sm (K _ _ ⟨rfl, ?_⟩)) (fun z => absurd z (by decide))
      rw [nrB_f (fun ⟨k, lk, z⟩ => no k lk (hl k lk) z)]; rfl
    | succ r ih =>
      intro k u5 u6 u7 u8 ek no
      have skip : (lv k = true → ¬ nrZ (U0 k) (V0 k) (U1 k) (V1 k) u v s) → ∀ u5 u6 u7 u8 : AV, Ends (ev PP (gsF gv) B d 412 212 [(2, rf (B + 56)), (0, u), (0, v), (0, s), (0, (k : Int)), u5, u6, u7, u8] [] h) Q := fun z u5 u6 u7 u8 => by
        refine Ends.eq (b412_212 (n := n) (by (repeat' first | assumption | refine LX.setF _ _ ?_ (by decide +kernel) | refine LX.setS ?_ rfl | refine LX.setA ?_ (by first | assumption | omega))) (by first | assumption | omega)) ?_
        rw [w_succ (by omega)]
        refine ih (k + 1) _ _ _ _ (by omega) (fun j lj hj => ?_)
        rcases (by omega : j < k ∨ j = k) with y | y
        · exact no j lj y
        · rw [y] at lj ⊢; exact z lj
      obtain ⟨t1, t2⟩ := Sg k (by omega)
      cases lk : lv k
      · refine Ends.eq (b412_3 (n := n) (by (repeat' first | assumption | refine LX.setF _ _ ?_ (by decide +kernel) | refine LX.setS ?_ rfl | refine LX.setA ?_ (by first | assumption | omega))) (by first | assumption | omega)) ?_
        simp only [tn]
        rw [t1, lk]
        exact Ends.b3 (fun z => absurd z (by omega)) (fun _ => Ends.g ⟨by omega, by omega⟩ (Ends.b1 (fun z => absurd rfl z) (fun _ => skip (fun y => by rw [lk] at y; cases y) _ _ _ _)))
      · obtain ⟨G, d1, d2, d3⟩ := hG k lk
        obtain ⟨y1, y2, y3, y4⟩ := t2 lk
        have I := nr_iff (u := u) (v := v) G bs.1
        obtain ⟨⟨⟨h1, h2, h3⟩, hs⟩, ⟨g1, g2⟩, gu, gv_, -, -, gs⟩ := id G
        obtain ⟨a, ea⟩ : ∃ a, a = u - 8 * U0 k := ⟨_, rfl⟩
        obtain ⟨c, ec⟩ : ∃ c, c = v - 8 * V0 k := ⟨_, rfl⟩
        rw [← ea, ← ec] at I
        have e1 : bop32 104 8 (SZ k) = 8 * SZ k := mul32 (by omega) (by omega)
        have e2 : bop32 104 8 (U0 k) = 8 * U0 k := mul32 (by omega) (by omega)
        have e3 : bop32 104 8 (V0 k) = 8 * V0 k := mul32 (by omega) (by omega)
        have e4 : bop32 100 u (8 * U0 k) = a := by rw [ea]; exact sub32 (by omega) (by omega)
        have e5 : bop32 100 v (8 * V0 k) = c := by rw [ec]; exact sub32 (by omega) (by omega)
        have ba : -3000 ≤ a ∧ a ≤ 3000 := by omega
        have bc : -3000 ≤ c ∧ c ≤ 3000 := by omega
        have e6 : v886 a = if a < 0 then -a else a := v886_is (by omega) (by omega)
        have e7 : v886 c = if c < 0 then -c else c := v886_is (by omega) (by omega)
        have bda : -3000 ≤ DU k * a ∧ DU k * a ≤ 3000 := by rcases h1 with z | z | z <;> rw [z] <;> omega
        have bdc : -3000 ≤ DV k * c ∧ DV k * c ≤ 3000 := by rcases h2 with z | z | z <;> rw [z] <;> omega
        have m1 : bop32 104 (DU k) a = DU k * a := mul32 (by omega) (by omega)
        have m2 : bop32 104 (DV k) c = DV k * c := mul32 (by omega) (by omega)
        have m3 : bop32 100 (DU k * a) s = DU k * a - s := sub32 (by omega) (by omega)
        have m4 : bop32 96 (DU k * a) s = DU k * a + s := add32 (by omega) (by omega)
        have m5 : bop32 100 (DV k * c) s = DV k * c - s := sub32 (by omega) (by omega)
        have m6 : bop32 96 (DV k * c) s = DV k * c + s := add32 (by omega) (by omega)
        generalize DU k * a = xa at *
        generalize DV k * c = xc at *
        -- whether what is low is not above what is high
        have last : (DU k = 0 → -s ≤ a ∧ a ≤ s) → (DV k = 0 → -s ≤ c ∧ c ≤ s) → Ends (ev PP (gsF gv) B d 412 107 [(2, rf (B + 56)), (0, u), (0, v), (0, s), (0, (k : Int)), (0, 0), (0, 8 * SZ k), (0, a), (0, c)] [] h) Q := fun w1 w2 => by
          refine Ends.eq (b412_107 (n := n) (by (repeat' first | assumption | refine LX.setF _ _ ?_ (by decide +kernel) | refine LX.setS ?_ rfl | refine LX.setA ?_ (by first | assumption | omega))) (by first | assumption | omega)) ?_
          simp only [tn]
          rw [d1, d2, m1, m2, m3, m4, m5, m6]
          clear m1 m2 m3 m4 m5 m6 e1 e2 e3 e4 e5 e6 e7
          simp only [v891_is, v892_is, ct0]
          refine Ends.g ⟨by omega, by omega⟩ (Ends.b4 (fun z => skip (fun _ y => ?_) _ _ _ _) (fun z => Ends.sm (K _ _ ⟨rfl, ?_⟩)))
          · have := I.mp y
            clear I skip
            by_cases c1 : DU k = 0 <;> by_cases c2 : DV k = 0
            · exact h3 ⟨c1, c2⟩
            · rw [if_neg c2, if_neg c2, if_pos c1, if_pos c1] at z; omega
            · rw [if_pos c2, if_pos c2, if_neg c1, if_neg c1] at z; omega
            · rw [if_neg c2, if_neg c2, if_neg c1, if_neg c1] at z; omega
          · rw [nrB_t ⟨k, lk, I.mpr ?_⟩]
            · rfl
            · clear I skip
              by_cases c1 : DU k = 0 <;> by_cases c2 : DV k = 0
              · exact absurd ⟨c1, c2⟩ h3
              · rw [if_neg c2, if_neg c2, if_pos c1, if_pos c1] at z; omega
              · rw [if_pos c2, if_pos c2, if_neg c1, if_neg c1] at z; omega
              · rw [if_neg c2, if_neg c2, if_neg c1, if_neg c1] at z; omega
        have mid : (DU k = 0 → -s ≤ a ∧ a ≤ s) → Ends (ev PP (gsF gv) B d 412 85 [(2, rf (B + 56)), (0, u), (0, v), (0, s), (0, (k : Int)), (0, 0), (0, 8 * SZ k), (0, a), (0, c)] [] h) Q := fun w1 => by
          refine Ends.eq (b412_85 (n := n) (by (repeat' first | assumption | refine LX.setF _ _ ?_ (by decide +kernel) | refine LX.setS ?_ rfl | refine LX.setA ?_ (by first | assumption | omega))) (by first | assumption | omega)) ?_
          rw [tn, d2, e7]
          refine Ends.g ⟨by omega, by omega⟩ (Ends.b1 (fun z => last w1 (fun y => absurd y z)) (fun z => Ends.b5 (fun z2 => last w1 (fun _ => ?_)) (fun z2 => skip (fun _ y => ?_) _ _ _ _)))
          · clear m1 m2 m3 m4 m5 m6 e1 e2 e3 e4 e5 e6 e7 I
            split at z2 <;> omega
          · have := (I.mp y).2.1 z
            clear m1 m2 m3 m4 m5 m6 e1 e2 e3 e4 e5 e6 e7 I
            split at z2 <;> omega
        refine Ends.eq (b412_3 (n := n) (by (repeat' first | assumption | refine LX.setF _ _ ?_ (by decide +kernel) | refine LX.setS ?_ rfl | refine LX.setA ?_ (by first | assumption | omega))) (by first | assumption | omega)) ?_
        simp only [tn]
        rw [t1, lk, d1, d3, y1, y2, e1, e2, e3, e4, e5, e6]
        refine Ends.b3 (fun z => absurd z (by omega)) (fun _ => Ends.g ⟨by omega, by omega⟩ (Ends.b1 (fun _ => Ends.b1 (fun z => mid (fun y => absurd y z)) (fun z => Ends.b4 (fun z2 => skip (fun _ y => ?_) _ _ _ _) (fun z2 => mid (fun _ => ?_)))) (fun z => absurd z (by decide))))
        · have := (I.mp y).1 z
          clear m1 m2 m3 m4 m5 m6 e1 e2 e3 e4 e5 e6 e7 I
          split at z2 <;> omega
        · clear m1 m2 m3 m4 m5 m6 e1 e2 e3 e4 e5 e6 e7 I
          split at z2 <;> omega
  refine Ends.eq (b412_0 (n := n) (by (repeat' first | assumption | refine LX.setF _ _ ?_ (by decide +kernel) | refine LX.setS ?_ rfl | refine LX.setA ?_ (by first | assumption | omega))) (by first | assumption | omega)) ?_
  exact key 24 0 _ _ _ _ rfl (fun j _ hj => absurd hj (Nat.not_lt_zero j))
/-- places near lines by quarters -/
def nrQ (lv : Nat → Bool) (U0 V0 U1 V1 : Nat → Int) (s : Int) (q v u : Nat) : Bool := nrB lv U0 V0 U1 V1 (8 * (u : Int) + sU q) (8 * (v : Int) + sV q) (8 * s)
set_option maxHeartbeats 2000000 in
theorem c_wall440 (l : LX B n h) (hd : 12 ≤ d) (hn : n ≤ 52) (Sg : SgD B h lv U0 V0 U1 V1) (hG : ∀ k, lv k = true → SgK n U0 V0 U1 V1 DU DV SZ k ∧ hv h (B + 73) k = DU k ∧ hv h (B + 74) k = DV k ∧ hv h (B + 75) k = SZ k) (hl : ∀ k, lv k = true → k < 24) (bs : 0 ≤ s ∧ s ≤ 1000) (kb : hk h b = (3, 4 * n)) (hb : B + 81 ≤ b) :
    Vd (cll PP (ev PP (gsF gv) B) d 440 [(2, rf (B + 56)), (2, rf b), (0, s)] h) (fun h' => Agr (fun c _ => c = b) h h' ∧ Qua n h' b (nrQ lv U0 V0 U1 V1 s)) := by
  refine Vd.inq (D := 11) hd (Nat.le_of_ble_eq_true rfl) rfl (fun d hd P K => ?_)
  obtain ⟨R, eR⟩ : ∃ R, R = nrQ lv U0 V0 U1 V1 s := ⟨_, rfl⟩
  have e8 : bop32 104 8 s = 8 * s := mul32 (by omega) (by omega)
  have quas : ∀ (c p : Nat) (q : AH) (u4 u5 u6 u7 : AV), p + c = 4 → LX B n q → Agr (fun c _ => c = b) h q → QuP n q b R p 0 → Ends (ev PP (gsF gv) B d 440 2 [(2, rf (B + 56)), (2, rf b), (0, s), (0, (p : Int)), u4, u5, u6, u7] [] q) P := by
    intro c
    induction c with
    | zero =>
      intro p q u4 u5 u6 u7 hp lq g qq
      obtain rfl : p = 4 := by omega
      refine Ends.eq (b440_2 (n := n) (by (repeat' first | assumption | refine LX.setF _ _ ?_ (by decide +kernel) | refine LX.setS ?_ rfl | refine LX.setA ?_ (by first | assumption | omega))) (by first | assumption | omega)) ?_
      exact Ends.b3 (fun _ => Ends.sm (K _ ⟨g, by rw [← eR]; exact qq.done⟩)) (fun z => absurd z (by decide))
    | succ c ihc =>
      intro p q u4 u5 u6 u7 hp lq g qq
      have hp4 : p < 4 := by omega
      have su := sU_b (q := p)
      have sv := sV_b (q := p)
      have rows : ∀ (c y : Nat) (q : AH) (u5 u6 u7 : AV), y + c = n → LX B n q → Agr (fun c _ => c = b) h q → QuP n q b R p y → Ends (ev PP (gsF gv) B d 440 10 [(2, rf (B + 56)), (2, rf b), (0, s), (0, (p : Int)), (0, (y : Int)), u5, u6, u7] [] q) P := by
        intro c
        induction c with
        | zero =>
          intro y q u5 u6 u7 hy lq g qq
          obtain rfl : n = y := by omega
          refine Ends.eq (b440_10 (n := n) (by (repeat' first | assumption | refine LX.setF _ _ ?_ (by decide +kernel) | refine LX.setS ?_ rfl | refine LX.setA ?_ (by first | assumption | omega))) (by first | assumption | omega)) ?_
          refine Ends.b3 (fun _ => ?_) (fun z => absurd z (Int.lt_irrefl _))
          rw [w_succ (by omega)]
          exact ihc (p + 1) q _ _ _ _ (by omega) lq g qq.next
        | succ c ihr =>
          intro y q u5 u6 u7 hy lq g qq
          have at_ : ∀ c k, c < B + 81 → hv q c k = hv h c k := fun c k hc => g.at _ _ (fun z => by omega)
          have Sq : SgD B q lv U0 V0 U1 V1 := Sg.agr g (fun c k z => by omega)
          have hGq : ∀ k, lv k = true → SgK n U0 V0 U1 V1 DU DV SZ k ∧ hv q (B + 73) k = DU k ∧ hv q (B + 74) k = DV k ∧ hv q (B + 75) k = SZ k := fun k z => by
            rw [at_ _ _ (by omega), at_ _ _ (by omega), at_ _ _ (by omega)]; exact hG k z
          have idx : ∀ _ : Unit, bop32 96 (bop32 104 (p : Int) (n : Int)) (y : Int) = ((p * n + y : Nat) : Int) := fun _ => by
            have := Nat.mul_le_mul (show p ≤ 3 by omega) hn
            rw [show bop32 104 (p : Int) (n : Int) = ((p * n : Nat) : Int) from mulNN (by omega)]
            exact addNN (by omega)
          have cols : ∀ (c x : Nat) (m : Int) (u6 : AV), x + c = n → ¬ u6.1 = 1 → cn 1 m → (∀ j, j < 64 → tb m j = (decide (j < x) && R p y j)) → Ends (ev PP (gsF gv) B d 440 25 [(2, rf (B + 56)), (2, rf b), (0, s), (0, (p : Int)), (0, (y : Int)), (1, m), u6, (0, (x : Int))] [] q) P := by
            intro c
            induction c with
            | zero =>
              intro x m u6 hx nu6 cm hm
              obtain rfl : n = x := by omega
              have ql := q_lt (n := n) (q := p) (v := y) hp4 (by omega)
              refine Ends.eq (b440_25 (n := n) (by (repeat' first | assumption | refine LX.setF _ _ ?_ (by decide +kernel) | refine LX.setS ?_ rfl | refine LX.setA ?_ (by first | assumption | omega))) (by first | assumption | omega)) ?_
              rw [idx (), tn, ad_rf, an1]
              refine Ends.b3 (fun _ => Ends.g ⟨rf_pos _, by rw [g.hk, kb], by omega, by rw [g.hk, kb]; show ((p * n + y : Nat) : Int) < ((4 * n : Nat) : Int); omega, by omega⟩ ?_) (fun z => absurd z (Int.lt_irrefl _))
              rw [w_succ (by omega)]
              refine ihr (y + 1) _ _ _ _ (by omega) (lq.setA (t := 1) (by rw [g.hk, kb])) (g.set rfl) (qq.put hp4 (by omega) cm hm)
            | succ c ihx =>
              intro x m u6 hx nu6 cm hm
              have e1 : bop32 96 (bop32 104 8 (x : Int)) (v434 (p : Int)) = 8 * (x : Int) + sU p := by
                rw [v434_is ⟨p, hp4⟩, mul32 (x := 8) (y := (x : Int)) (by omega) (by omega)]
                exact add32 (by simp only; omega) (by simp only; omega)
              have e2 : bop32 96 (bop32 104 8 (y : Int)) (v435 (p : Int)) = 8 * (y : Int) + sV p := by
                rw [v435_is ⟨p, hp4⟩, mul32 (x := 8) (y := (y : Int)) (by omega) (by omega)]
                exact add32 (by simp only; omega) (by simp only; omega)
              obtain ⟨X, eX⟩ : ∃ X, X = 8 * (x : Int) + sU p := ⟨_, rfl⟩
              obtain ⟨Y, eY⟩ : ∃ Y, Y = 8 * (y : Int) + sV p := ⟨_, rfl⟩
              have rxy : R p y x = nrB lv U0 V0 U1 V1 X Y (8 * s) := by rw [eR, eX, eY]; rfl
              refine Ends.eq (b440_25 (n := n) (by (repeat' first | assumption | refine LX.setF _ _ ?_ (by decide +kernel) | refine LX.setS ?_ rfl | refine LX.setA ?_ (by first | assumption | omega))) (by first | assumption | omega)) ?_
              rw [e1, e2, e8, ← eX, ← eY]
              clear e1 e2
              refine Ends.b3 (fun z => absurd z (by omega)) (fun _ => ?_)
              refine Ends.ct lq (by decide +kernel) (by decide) (c_isNear412 lq (by omega) (by omega) Sq hGq hl (by omega) (by omega) (by omega)) (fun y0 q2 l2 _ _ _ ⟨eq2_, ey0⟩ => ?_)
              subst eq2_
              rw [← rxy] at ey0
              have next : ∀ (m' : Int) (u6 : AV), ¬ u6.1 = 1 → cn 1 m' → (∀ j, j < 64 → tb m' j = (decide (j < x + 1) && R p y j)) → Ends (ev PP (gsF gv) B d 440 74 [(2, rf (B + 56)), (2, rf b), (0, s), (0, (p : Int)), (0, (y : Int)), (1, m'), u6, (0, (x : Int))] [] q2) P := fun m' u6 nu6 cm' hm' => by
                refine Ends.eq (b440_74 (n := n) nu6 l2 (by omega)) ?_
                rw [w_succ (by omega)]
                exact ihx (x + 1) m' _ (by omega) nu6 cm' hm'
              refine Ends.eq (b440_62 (n := n) (by (repeat' first | assumption | refine LX.setF _ _ ?_ (by decide +kernel) | refine LX.setS ?_ rfl | refine LX.setA ?_ (by first | assumption | omega))) (by first | assumption | omega)) ?_
              rw [ey0]
              cases rr : R p y x
              · exact Ends.b0 (fun _ => next m _ nu6 cm (fun j hj => bit_no (P := R p y) (hm j hj) rr)) (fun z => absurd rfl z)
              · exact Ends.b0 (fun z => absurd z (by decide)) (fun _ => next _ _ (by decide) cn_bop64 (fun j hj => bit_put (P := R p y) (by omega) hj (hm j hj) rr))
          refine Ends.eq (b440_10 (n := n) (by (repeat' first | assumption | refine LX.setF _ _ ?_ (by decide +kernel) | refine LX.setS ?_ rfl | refine LX.setA ?_ (by first | assumption | omega))) (by first | assumption | omega)) ?_
          refine Ends.b3 (fun z => absurd z (by omega)) (fun _ => ?_)
          exact cols n 0 0 _ (by omega) (by decide) ⟨by decide, by decide⟩ (fun j _ => by rw [tb_0]; simp)
      refine Ends.eq (b440_2 (n := n) (by (repeat' first | assumption | refine LX.setF _ _ ?_ (by decide +kernel) | refine LX.setS ?_ rfl | refine LX.setA ?_ (by first | assumption | omega))) (by first | assumption | omega)) ?_
      exact Ends.b3 (fun z => absurd z (by omega)) (fun _ => rows n 0 q _ _ _ (by omega) lq g qq)
  refine Ends.eq (b440_0 (n := n) (by (repeat' first | assumption | refine LX.setF _ _ ?_ (by decide +kernel) | refine LX.setS ?_ rfl | refine LX.setA ?_ (by first | assumption | omega))) (by first | assumption | omega)) ?_
  exact quas 4 0 h _ _ _ _ rfl l Agr.rf (QuP.zero kb)
end NRL
