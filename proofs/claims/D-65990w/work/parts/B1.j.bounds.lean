/-! L3: corners of a grain, bounds of a solid (model) -/
section CORN
variable {gv : Nat → Int} {B n d : Nat} {h : AH} {S : Nat → Bool}
theorem crA : ∀ t : Fin 24, ∀ k : Fin 4, crn t k (aA t) = if (k : Nat) = 0 then 0 else if (k : Nat) = 1 then 2 else 1 := by decide +kernel
theorem crB : ∀ t : Fin 24, ∀ k : Fin 4, crn t k (aB t) = if (k : Nat) < 2 then (if rT t (aB t) = 2 then 0 else 2) else 1 := by decide +kernel
theorem crC : ∀ t : Fin 24, ∀ k : Fin 4, crn t k (aC t) = if (k : Nat) < 3 then (if rT t (aC t) = 1 then 0 else 2) else 1 := by decide +kernel
theorem ax_dif : ∀ t : Fin 24, aA t ≠ aB t ∧ aA t ≠ aC t ∧ aB t ≠ aC t ∧ ∀ a : Fin 3, (a : Nat) = aA t ∨ (a : Nat) = aB t ∨ (a : Nat) = aC t := by decide +kernel
/-- corner k of grain g along an axis, in halves -/
def cv2 (n g k a : Nat) : Nat := 2 * gC n g a + crn (gSo g) k a
theorem g8_div {g a : Nat} (hg : g < gN n) (ha : a < 3) : g8 n g a / 8 = gC n g a := by
  obtain ⟨_, _, _, _, x4⟩ := g_lt hg
  have r := rT_lt ⟨gSo g, x4⟩ ⟨a, ha⟩
  simp only at r
  have : a = 0 ∨ a = 1 ∨ a = 2 := by omega
  rcases this with rfl | rfl | rfl
  · show (8 * gX n g + rT (gSo g) 0) / 8 = gX n g
    omega
  · show (8 * gY n g + rT (gSo g) 1) / 8 = gY n g
    omega
  · show (8 * gZ n g + rT (gSo g) 2) / 8 = gZ n g
    omega
theorem c_corners584 (l : LX B n h) (hd : 10 ≤ d) (hn : n ≤ 52) (m : TbM B h) {g : Nat} (hg : g < gN n) : Vd (cll PP (ev PP (gsF gv) B) d 584 [(2, rf (B + 149)), (0, (g : Int))] h) (fun h' => Agr (fun c _ => c = B + 189) h h' ∧ ∀ k a, k < 4 → a < 3 → hv h' (B + 189) (3 * k + a) = ((cv2 n g k a : Nat) : Int)) := by
  refine Vd.inq (D := 9) hd (Nat.le_of_ble_eq_true rfl) rfl (fun d hd Q K => ?_)
  obtain ⟨_, _, _, _, ht⟩ := g_lt hg
  obtain ⟨ta, tb, tc⟩ := ax_lt ⟨gSo g, ht⟩
  obtain ⟨d1, d2, d3, d4⟩ := ax_dif ⟨gSo g, ht⟩
  simp only at ta tb tc d1 d2 d3
  obtain ⟨_, _, _, m4, m5, m6, _⟩ := m.1 (gSo g) ht
  obtain ⟨qa, va⟩ := coord_is m hn hg ta
  obtain ⟨qb, vb⟩ := coord_is m hn hg tb
  obtain ⟨qc, vc⟩ := coord_is m hn hg tc
  obtain ⟨rb1, rb2⟩ := rest_is m ht tb
  obtain ⟨rc1, rc2⟩ := rest_is m ht tc
  have low : ∀ a : Nat, a < 3 → bop32 104 2 (bop32 122 ((g8 n g a : Nat) : Int) 3) = ((2 * gC n g a : Nat) : Int) := fun a ha => by
    have := (g8_lt hg a).2
    have := gC_lt (n := n) (a := a) hg
    rw [shr3 (by omega), g8_div hg ha]
    exact mulNN (x := 2) (by omega)
  have gcl : ∀ a, gC n g a < 52 := fun a => by have := gC_lt (n := n) (a := a) hg; omega
  refine Ends.eq (b584_0 (n := n) (by (repeat' first | assumption | refine LX.setF _ _ ?_ (by decide +kernel) | refine LX.setS ?_ rfl | refine LX.setA ?_ (by first | assumption | omega))) (by first | assumption | omega)) ?_
  rw [gSo_is, tn, m4, m5, m6, va, vb, vc, rb2, rc2, low _ ta, low _ tb, low _ tc]
  refine Ends.g ⟨by omega, by omega⟩ (Ends.g qa (Ends.g qb (Ends.g qc (Ends.g rb1 (Ends.g rc1 ?_)))))
  have eb : bop32 96 ((2 * gC n g (aB (gSo g)) : Nat) : Int) (cond (tst 1 ((rT (gSo g) (aB (gSo g)) : Nat) : Int) 2) 2 0) = ((2 * gC n g (aB (gSo g)) + (if rT (gSo g) (aB (gSo g)) = 2 then 0 else 2) : Nat) : Int) := by
    have := gcl (aB (gSo g))
    rw [tst1]
    by_cases e : rT (gSo g) (aB (gSo g)) = 2
    · rw [if_pos e, decide_eq_true (by omega)]; exact addNN (y := 0) (by omega)
    · rw [if_neg e, decide_eq_false (by omega)]; exact addNN (y := 2) (by omega)
  have ec : bop32 96 ((2 * gC n g (aC (gSo g)) : Nat) : Int) (cond (tst 1 ((rT (gSo g) (aC (gSo g)) : Nat) : Int) 1) 2 0) = ((2 * gC n g (aC (gSo g)) + (if rT (gSo g) (aC (gSo g)) = 1 then 0 else 2) : Nat) : Int) := by
    have := gcl (aC (gSo g))
    rw [tst1]
    by_cases e : rT (gSo g) (aC (gSo g)) = 1
    · rw [if_pos e, decide_eq_true (by omega)]; exact addNN (y := 0) (by omega)
    · rw [if_neg e, decide_eq_false (by omega)]; exact addNN (y := 2) (by omega)
  rw [eb, ec]
  have key : ∀ (r i : Nat) (q : AH), i + r = 4 → LX B n q → Agr (fun c _ => c = B + 189) h q → (∀ k a, k < i → a < 3 → hv q (B + 189) (3 * k + a) = ((cv2 n g k a : Nat) : Int)) → Ends (ev PP (gsF gv) B d 584 111 [(2, rf (B + 149)), (0, (g : Int)), (0, (gSo g : Int)), (0, (aA (gSo g) : Int)), (0, (aB (gSo g) : Int)), (0, (aC (gSo g) : Int)), (0, ((2 * gC n g (aA (gSo g)) : Nat) : Int)), (0, ((2 * gC n g (aB (gSo g)) : Nat) : Int)), (0, ((2 * gC n g (aC (gSo g)) : Nat) : Int)), (0, ((2 * gC n g (aB (gSo g)) + (if rT (gSo g) (aB (gSo g)) = 2 then 0 else 2) : Nat) : Int)), (0, ((2 * gC n g (aC (gSo g)) + (if rT (gSo g) (aC (gSo g)) = 1 then 0 else 2) : Nat) : Int)), (0, (i : Int))] [] q) Q := by
    intro r
    induction r with
    | zero =>
      intro i q hi lq gq lo
      refine Ends.eq (b584_111 (n := n) (by (repeat' first | assumption | refine LX.setF _ _ ?_ (by decide +kernel) | refine LX.setS ?_ rfl | refine LX.setA ?_ (by first | assumption | omega))) (by first | assumption | omega)) ?_
      exact Ends.b3 (fun _ => Ends.sm (K _ ⟨gq, fun k a hk ha => lo k a (by omega) ha⟩)) (fun z => by omega)
    | succ r ih =>
      intro i q hi lq gq lo
      have hi4 : i < 4 := by omega
      have ix : ∀ a : Nat, a < 3 → bop32 96 (bop32 104 3 (i : Int)) (a : Int) = ((3 * i + a : Nat) : Int) := fun a ha => by
        rw [show bop32 104 (3 : Int) (i : Int) = ((3 * i : Nat) : Int) from mulNN (x := 3) (by omega), addNN (by omega)]
      have gA := gcl (aA (gSo g))
      have gB := gcl (aB (gSo g))
      have gCc := gcl (aC (gSo g))
      have wA : cond (tst 1 (i : Int) 0) (cond (tst 1 (i : Int) 1) (bop32 96 ((2 * gC n g (aA (gSo g)) : Nat) : Int) 1) (bop32 96 ((2 * gC n g (aA (gSo g)) : Nat) : Int) 2)) ((2 * gC n g (aA (gSo g)) : Nat) : Int) = ((cv2 n g i (aA (gSo g)) : Nat) : Int) := by
        have := crA ⟨gSo g, ht⟩ ⟨i, hi4⟩
        simp only at this
        unfold cv2
        rw [this, show bop32 96 ((2 * gC n g (aA (gSo g)) : Nat) : Int) 1 = ((2 * gC n g (aA (gSo g)) + 1 : Nat) : Int) from addNN (y := 1) (by omega), show bop32 96 ((2 * gC n g (aA (gSo g)) : Nat) : Int) 2 = ((2 * gC n g (aA (gSo g)) + 2 : Nat) : Int) from addNN (y := 2) (by omega)]
        have : i = 0 ∨ i = 1 ∨ i = 2 ∨ i = 3 := by omega
        rcases this with rfl | rfl | rfl | rfl <;> rfl
      have wB : cond (tst 3 (i : Int) 2) (bop32 96 ((2 * gC n g (aB (gSo g)) : Nat) : Int) 1) ((2 * gC n g (aB (gSo g)) + (if rT (gSo g) (aB (gSo g)) = 2 then 0 else 2) : Nat) : Int) = ((cv2 n g i (aB (gSo g)) : Nat) : Int) := by
        have := crB ⟨gSo g, ht⟩ ⟨i, hi4⟩
        simp only at this
        unfold cv2
        rw [this, show bop32 96 ((2 * gC n g (aB (gSo g)) : Nat) : Int) 1 = ((2 * gC n g (aB (gSo g)) + 1 : Nat) : Int) from addNN (y := 1) (by omega)]
        have : i = 0 ∨ i = 1 ∨ i = 2 ∨ i = 3 := by omega
        rcases this with rfl | rfl | rfl | rfl <;> rfl
      have wC : cond (tst 3 (i : Int) 3) (bop32 96 ((2 * gC n g (aC (gSo g)) : Nat) : Int) 1) ((2 * gC n g (aC (gSo g)) + (if rT (gSo g) (aC (gSo g)) = 1 then 0 else 2) : Nat) : Int) = ((cv2 n g i (aC (gSo g)) : Nat) : Int) := by
        have := crC ⟨gSo g, ht⟩ ⟨i, hi4⟩
        simp only at this
        unfold cv2
        rw [this, show bop32 96 ((2 * gC n g (aC (gSo g)) : Nat) : Int) 1 = ((2 * gC n g (aC (gSo g)) + 1 : Nat) : Int) from addNN (y := 1) (by omega)]
        have : i = 0 ∨ i = 1 ∨ i = 2 ∨ i = 3 := by omega
        rcases this with rfl | rfl | rfl | rfl <;> rfl
      refine Ends.eq (b584_111 (n := n) (by (repeat' first | assumption | refine LX.setF _ _ ?_ (by decide +kernel) | refine LX.setS ?_ rfl | refine LX.setA ?_ (by first | assumption | omega))) (by first | assumption | omega)) ?_
      rw [ix _ ta, ix _ tb, ix _ tc, wA, wB, wC, tn, tn, tn, w_succ (by omega)]
      simp only [an0]
      refine Ends.b3 (fun z => by omega) (fun _ => Ends.g ⟨by omega, by omega⟩ (Ends.g ⟨by omega, by omega⟩ (Ends.g ⟨by omega, by omega⟩ ?_)))
      refine ih (i + 1) _ (by omega) (LX.setS (LX.setS (LX.setS lq rfl) rfl) rfl) (((gq.set rfl).set rfl).set rfl) (fun k a hk ha => ?_)
      by_cases z : k = i
      · have dd := d4 ⟨a, ha⟩
        simp only at dd
        rw [z]
        rcases dd with e | e | e
        · rw [e, hv_set_ne (by omega), hv_set_ne (by omega), hv_set_at]
        · rw [e, hv_set_ne (by omega), hv_set_at]
        · rw [e, hv_set_at]
      · rw [hv_set_ne (by omega), hv_set_ne (by omega), hv_set_ne (by omega)]
        exact lo k a (by omega) ha
  exact key 4 0 h rfl l Agr.rf (fun k a hk _ => absurd hk (by omega))
/-- bounds so far, in eighths: of the corners that P names -/
def BoI (n : Nat) (P : Nat → Nat → Nat → Prop) (lo mo : Nat → Int) : Prop := ∀ a, a < 3 → (∀ g k, P g k a → lo a ≤ ((4 * cv2 n g k a : Nat) : Int) ∧ ((4 * cv2 n g k a : Nat) : Int) ≤ mo a) ∧ (lo a = ((8 * n : Nat) : Int) ∨ ∃ g k, P g k a ∧ lo a = ((4 * cv2 n g k a : Nat) : Int)) ∧ (mo a = 0 ∨ ∃ g k, P g k a ∧ mo a = ((4 * cv2 n g k a : Nat) : Int))
theorem cv2_le {g k a : Nat} (hg : g < gN n) (hk : k < 4) (ha : a < 3) : cv2 n g k a ≤ 2 * n := by
  obtain ⟨_, _, _, _, ht⟩ := g_lt hg
  have := gC_lt (n := n) (a := a) hg
  have c := crn_allN ht ha
  have := (c.1 k hk).2
  have := c.2.2.2
  unfold cv2
  omega
/-- one corner more -/
theorem BoI.add {P : Nat → Nat → Nat → Prop} {lo mo : Nat → Int} {g0 k0 a0 : Nat} (b : BoI n P lo mo) (ha0 : a0 < 3) : BoI n (fun g k a => P g k a ∨ (g = g0 ∧ k = k0 ∧ a = a0)) (fun a => if a = a0 ∧ ((4 * cv2 n g0 k0 a0 : Nat) : Int) < lo a then ((4 * cv2 n g0 k0 a0 : Nat) : Int) else lo a) (fun a => if a = a0 ∧ mo a < ((4 * cv2 n g0 k0 a0 : Nat) : Int) then ((4 * cv2 n g0 k0 a0 : Nat) : Int) else mo a) := by
  intro a ha
  obtain ⟨b1, b2, b3⟩ := b a ha
  dsimp only
  refine ⟨fun g k hp => ?_, ?_, ?_⟩
  · rcases hp with hp | ⟨rfl, rfl, rfl⟩
    · have := b1 g k hp
      constructor <;> split <;> omega
    · constructor
      · by_cases z : ((4 * cv2 n g k a : Nat) : Int) < lo a
        · rw [if_pos ⟨rfl, z⟩]; exact Int.le_refl _
        · rw [if_neg (fun y => z y.2)]; omega
      · by_cases z : mo a < ((4 * cv2 n g k a : Nat) : Int)
        · rw [if_pos ⟨rfl, z⟩]; exact Int.le_refl _
        · rw [if_neg (fun y => z y.2)]; omega
  · split
    · next z => exact Or.inr ⟨g0, k0, Or.inr ⟨rfl, rfl, z.1⟩, by rw [z.1]⟩
    · rcases b2 with b2 | ⟨g, k, hp, e⟩
      · exact Or.inl b2
      · exact Or.inr ⟨g, k, Or.inl hp, e⟩
  · split
    · next z => exact Or.inr ⟨g0, k0, Or.inr ⟨rfl, rfl, z.1⟩, by rw [z.1]⟩
    · rcases b3 with b3 | ⟨g, k, hp, e⟩
      · exact Or.inl b3
      · exact Or.inr ⟨g, k, Or.inl hp, e⟩
theorem BoI.congr {P P' : Nat → Nat → Nat → Prop} {lo mo : Nat → Int} (b : BoI n P lo mo) (e : ∀ g k a, a < 3 → (P g k a ↔ P' g k a)) : BoI n P' lo mo := by
  intro a ha
  obtain ⟨b1, b2, b3⟩ := b a ha
  refine ⟨fun g k hp => b1 g k ((e g k a ha).mpr hp), b2.imp id (fun ⟨g, k, hp, z⟩ => ⟨g, k, (e g k a ha).mp hp, z⟩), b3.imp id (fun ⟨g, k, hp, z⟩ => ⟨g, k, (e g k a ha).mp hp, z⟩)⟩
theorem b4c {x : Nat} (h : x ≤ 104) : bop32 104 4 (x : Int) = ((4 * x : Nat) : Int) := mulNN (x := 4) (by omega)
theorem bm3 {j : Nat} : bop32 112 (j : Int) 3 = ((j % 3 : Nat) : Int) := modNN (y := 3) (by decide) (by decide)
def boW (B : Nat) : Nat → Nat → Prop := fun c _ => c = B + 189 ∨ c = B + 201 ∨ c = B + 202
theorem c_bounds561 {s : Nat} (l : LX B n h) (hd : 12 ≤ d) (hn : n ≤ 52) (hs : s < 19) (m : TbM B h) (b : MB B n h s S) :
    Vd (cll PP (ev PP (gsF gv) B) d 561 [(2, rf (B + 149)), (0, (s : Int))] h) (fun h' => Agr (boW B) h h' ∧ ∃ lo mo, BoI n (fun g k a => g < gN n ∧ k < 4 ∧ S g = true) lo mo ∧ ∀ a, a < 3 → hv h' (B + 201) a = lo a ∧ hv h' (B + 202) a = mo a) := by
  have hG := gN_le hn
  refine Vd.inq (D := 11) hd (Nat.le_of_ble_eq_true rfl) rfl (fun d hd Q K => ?_)
  have grs : ∀ (r i : Nat) (q : AH) (lo mo : Nat → Int) (u3 u4 : AV), i + r = gN n → LX B n q → Agr (boW B) h q → BoI n (fun g k a => g < i ∧ k < 4 ∧ S g = true) lo mo → (∀ a, a < 3 → hv q (B + 201) a = lo a ∧ hv q (B + 202) a = mo a) → Ends (ev PP (gsF gv) B d 561 35 [(2, rf (B + 149)), (0, (s : Int)), (0, (i : Int)), u3, u4] [] q) Q := by
    intro r
    induction r with
    | zero =>
      intro i q lo mo u3 u4 hi lq gq bo v
      obtain rfl : i = gN n := by omega
      refine Ends.eq (b561_35 (n := n) (by (repeat' first | assumption | refine LX.setF _ _ ?_ (by decide +kernel) | refine LX.setS ?_ rfl | refine LX.setA ?_ (by first | assumption | omega))) (by first | assumption | omega)) ?_
      exact Ends.b3 (fun _ => Ends.sm (K _ ⟨gq, lo, mo, bo, v⟩)) (fun z => by omega)
    | succ r ih =>
      intro i q lo mo u3 u4 hi lq gq bo v
      have hig : i < gN n := by omega
      have bq : MB B n q s S := b.agr gq (fun k _ z => by unfold boW at z; omega)
      have mq : TbM B q := m.agr gq (fun c k h1 h2 h3 z => by unfold boW at z; omega)
      obtain ⟨a1, a2⟩ := has_is bq hs hn hig
      have nx : ∀ (q2 : AH) (lo mo : Nat → Int) (u3 u4 : AV), LX B n q2 → Agr (boW B) h q2 → BoI n (fun g k a => g < i + 1 ∧ k < 4 ∧ S g = true) lo mo → (∀ a, a < 3 → hv q2 (B + 201) a = lo a ∧ hv q2 (B + 202) a = mo a) → Ends (ev PP (gsF gv) B d 561 130 [(2, rf (B + 149)), (0, (s : Int)), (0, (i : Int)), u3, u4] [] q2) Q := fun q2 lo mo u3 u4 l2 g2 b2 v2 => by
        refine Ends.eq (b561_130 (n := n) (by (repeat' first | assumption | refine LX.setF _ _ ?_ (by decide +kernel) | refine LX.setS ?_ rfl | refine LX.setA ?_ (by first | assumption | omega))) (by first | assumption | omega)) ?_
        rw [w_succ (by omega)]
        exact ih (i + 1) q2 lo mo _ _ (by omega) l2 g2 b2 v2
      refine Ends.eq (b561_35 (n := n) (by (repeat' first | assumption | refine LX.setF _ _ ?_ (by decide +kernel) | refine LX.setS ?_ rfl | refine LX.setA ?_ (by first | assumption | omega))) (by first | assumption | omega)) ?_
      rw [a2]
      refine Ends.b3 (fun z => by omega) (fun _ => Ends.g a1 ?_)
      cases hS : S i
      · refine Ends.b1 (fun z => absurd rfl z) (fun _ => nx q lo mo _ _ lq gq (bo.congr (fun g k a _ => ?_)) v)
        constructor
        · rintro ⟨z1, z2⟩; exact ⟨by omega, z2⟩
        · rintro ⟨z1, z2, z3⟩
          refine ⟨?_, z2, z3⟩
          have : g ≠ i := fun e => by rw [e, hS] at z3; exact absurd z3 (by decide)
          omega
      refine Ends.b1 (fun _ => ?_) (fun z => absurd z (by decide))
      refine Ends.cv lq (by decide +kernel) (c_corners584 lq (by omega) hn mq hig) (fun q2 l2 _ _ _ ⟨g2, c2⟩ => ?_)
      have G2 : Agr (boW B) h q2 := gq.tr g2 (fun c k z => Or.inl z)
      refine Ends.eq (b561_60 (n := n) (by (repeat' first | assumption | refine LX.setF _ _ ?_ (by decide +kernel) | refine LX.setS ?_ rfl | refine LX.setA ?_ (by first | assumption | omega))) (by first | assumption | omega)) ?_
      have cor : ∀ (r j : Nat) (q3 : AH) (lo mo : Nat → Int) (u4 : AV), j + r = 12 → LX B n q3 → Agr (fun c _ => c = B + 201 ∨ c = B + 202) q2 q3 → BoI n (fun g k a => (g < i ∧ k < 4 ∧ S g = true) ∨ (g = i ∧ 3 * k + a < j)) lo mo → (∀ a, a < 3 → hv q3 (B + 201) a = lo a ∧ hv q3 (B + 202) a = mo a) → Ends (ev PP (gsF gv) B d 561 62 [(2, rf (B + 149)), (0, (s : Int)), (0, (i : Int)), (0, (j : Int)), u4] [] q3) Q := by
        intro r
        induction r with
        | zero =>
          intro j q3 lo mo u4 hj l3 g3 b3 v3
          refine Ends.eq (b561_62 (n := n) (by (repeat' first | assumption | refine LX.setF _ _ ?_ (by decide +kernel) | refine LX.setS ?_ rfl | refine LX.setA ?_ (by first | assumption | omega))) (by first | assumption | omega)) ?_
          refine Ends.b3 (fun _ => nx q3 lo mo _ _ l3 (G2.tr g3 (fun c k z => Or.inr z)) (b3.congr (fun g k a ha => ?_)) v3) (fun z => by omega)
          constructor
          · rintro (⟨z1, z2⟩ | ⟨z1, z2⟩)
            · exact ⟨by omega, z2⟩
            · exact ⟨by omega, by omega, by rw [z1]; exact hS⟩
          · rintro ⟨z1, z2, z3⟩
            by_cases e : g = i
            · exact Or.inr ⟨e, by omega⟩
            · exact Or.inl ⟨by omega, z2, z3⟩
        | succ r ihc =>
          intro j q3 lo mo u4 hj l3 g3 b3 v3
          have hj12 : j < 12 := by omega
          have k4 : j / 3 < 4 := by omega
          have a3 : j % 3 < 3 := by omega
          have ej : 3 * (j / 3) + j % 3 = j := by omega
          have ec : hv q3 (B + 189) j = ((cv2 n i (j / 3) (j % 3) : Nat) : Int) := by
            have := c2 (j / 3) (j % 3) k4 a3
            rw [ej] at this
            rw [g3.at _ _ (by omega)]; exact this
          have cl := cv2_le (n := n) hig k4 a3
          obtain ⟨w1, w2⟩ := v3 (j % 3) a3
          have b4 := b3.add (g0 := i) (k0 := j / 3) (a0 := j % 3) a3
          have fin : ∀ q4, LX B n q4 → Agr (fun c _ => c = B + 201 ∨ c = B + 202) q2 q4 → (∀ a, a < 3 → hv q4 (B + 201) a = (if a = j % 3 ∧ ((4 * cv2 n i (j / 3) (j % 3) : Nat) : Int) < lo a then ((4 * cv2 n i (j / 3) (j % 3) : Nat) : Int) else lo a) ∧ hv q4 (B + 202) a = (if a = j % 3 ∧ mo a < ((4 * cv2 n i (j / 3) (j % 3) : Nat) : Int) then ((4 * cv2 n i (j / 3) (j % 3) : Nat) : Int) else mo a)) → Ends (ev PP (gsF gv) B d 561 124 [(2, rf (B + 149)), (0, (s : Int)), (0, (i : Int)), (0, (j : Int)), (0, ((4 * cv2 n i (j / 3) (j % 3) : Nat) : Int))] [] q4) Q := fun q4 l4 g4 v4 => by
            refine Ends.eq (b561_124 (n := n) (by (repeat' first | assumption | refine LX.setF _ _ ?_ (by decide +kernel) | refine LX.setS ?_ rfl | refine LX.setA ?_ (by first | assumption | omega))) (by first | assumption | omega)) ?_
            rw [w_succ (by omega)]
            refine ihc (j + 1) q4 _ _ _ (by omega) l4 g4 (b4.congr (fun g k a ha => ?_)) v4
            constructor
            · rintro ((z | ⟨z1, z2⟩) | ⟨z1, z2, z3⟩)
              · exact Or.inl z
              · exact Or.inr ⟨z1, by omega⟩
              · exact Or.inr ⟨z1, by omega⟩
            · rintro (z | ⟨z1, z2⟩)
              · exact Or.inl (Or.inl z)
              · by_cases e : 3 * k + a = j
                · exact Or.inr ⟨z1, by omega, by omega⟩
                · exact Or.inl (Or.inr ⟨z1, by omega⟩)
          have mid : ∀ q4, LX B n q4 → Agr (fun c _ => c = B + 201 ∨ c = B + 202) q2 q4 → (∀ a, a < 3 → hv q4 (B + 201) a = (if a = j % 3 ∧ ((4 * cv2 n i (j / 3) (j % 3) : Nat) : Int) < lo a then ((4 * cv2 n i (j / 3) (j % 3) : Nat) : Int) else lo a) ∧ hv q4 (B + 202) a = mo a) → Ends (ev PP (gsF gv) B d 561 101 [(2, rf (B + 149)), (0, (s : Int)), (0, (i : Int)), (0, (j : Int)), (0, ((4 * cv2 n i (j / 3) (j % 3) : Nat) : Int))] [] q4) Q := fun q4 l4 g4 v4 => by
            refine Ends.eq (b561_101 (n := n) (by (repeat' first | assumption | refine LX.setF _ _ ?_ (by decide +kernel) | refine LX.setS ?_ rfl | refine LX.setA ?_ (by first | assumption | omega))) (by first | assumption | omega)) ?_
            rw [bm3, tn, (v4 (j % 3) a3).2]
            refine Ends.g ⟨by omega, by omega⟩ (Ends.b5 (fun z => ?_) (fun z => ?_))
            · refine fin q4 l4 g4 (fun a ha => ⟨(v4 a ha).1, ?_⟩)
              rw [(v4 a ha).2, if_neg (fun y => by rw [y.1] at y; omega)]
            · rw [an0]
              refine fin _ (LX.setS l4 rfl) (g4.set (Or.inr rfl)) (fun a ha => ⟨by rw [hv_na (by omega)]; exact (v4 a ha).1, ?_⟩)
              by_cases e : a = j % 3
              · rw [e, hv_set_at, if_pos ⟨rfl, z⟩]
              · rw [hv_set_ne (by omega), if_neg (fun y => e y.1)]; exact (v4 a ha).2
          refine Ends.eq (b561_62 (n := n) (by (repeat' first | assumption | refine LX.setF _ _ ?_ (by decide +kernel) | refine LX.setS ?_ rfl | refine LX.setA ?_ (by first | assumption | omega))) (by first | assumption | omega)) ?_
          rw [tn, ec, b4c (by omega), bm3, tn, w1]
          refine Ends.b3 (fun z => by omega) (fun _ => Ends.g ⟨by omega, by omega⟩ (Ends.g ⟨by omega, by omega⟩ (Ends.b3 (fun z => ?_) (fun z => ?_))))
          · refine mid q3 l3 g3 (fun a ha => ⟨?_, (v3 a ha).2⟩)
            rw [(v3 a ha).1, if_neg (fun y => by rw [y.1] at y; omega)]
          · rw [an0]
            refine mid _ (LX.setS l3 rfl) (g3.set (Or.inl rfl)) (fun a ha => ⟨?_, by rw [hv_na (by omega)]; exact (v3 a ha).2⟩)
            by_cases e : a = j % 3
            · rw [e, hv_set_at, if_pos ⟨rfl, z⟩]
            · rw [hv_set_ne (by omega), if_neg (fun y => e y.1)]; exact (v3 a ha).1
      exact cor 12 0 q2 lo mo _ rfl l2 Agr.rf (bo.congr (fun g k a _ => ⟨Or.inl, fun z => by rcases z with z | z; exact z; omega⟩)) (fun a ha => by rw [g2.at _ _ (by omega), g2.at _ _ (by omega)]; exact v a ha)
  have e8 : bop32 104 8 (n : Int) = ((8 * n : Nat) : Int) := mulNN (x := 8) (by omega)
  have ini : ∀ (r i : Nat) (q : AH) (u3 u4 : AV), i + r = 3 → LX B n q → Agr (boW B) h q → (∀ a, a < i → hv q (B + 201) a = ((8 * n : Nat) : Int) ∧ hv q (B + 202) a = 0) → Ends (ev PP (gsF gv) B d 561 2 [(2, rf (B + 149)), (0, (s : Int)), (0, (i : Int)), u3, u4] [] q) Q := by
    intro r
    induction r with
    | zero =>
      intro i q u3 u4 hi lq gq lo
      refine Ends.eq (b561_2 (n := n) (by (repeat' first | assumption | refine LX.setF _ _ ?_ (by decide +kernel) | refine LX.setS ?_ rfl | refine LX.setA ?_ (by first | assumption | omega))) (by first | assumption | omega)) ?_
      refine Ends.b3 (fun _ => ?_) (fun z => by omega)
      exact grs (gN n) 0 q (fun _ => ((8 * n : Nat) : Int)) (fun _ => 0) _ _ (by omega) lq gq (fun a _ => ⟨fun g k z => absurd z.1 (by omega), Or.inl rfl, Or.inl rfl⟩) (fun a ha => lo a (by omega))
    | succ r ih =>
      intro i q u3 u4 hi lq gq lo
      refine Ends.eq (b561_2 (n := n) (by (repeat' first | assumption | refine LX.setF _ _ ?_ (by decide +kernel) | refine LX.setS ?_ rfl | refine LX.setA ?_ (by first | assumption | omega))) (by first | assumption | omega)) ?_
      rw [e8, tn, an0, an0, w_succ (by omega)]
      refine Ends.b3 (fun z => by omega) (fun _ => Ends.g ⟨by omega, by omega⟩ ?_)
      refine ih (i + 1) _ _ _ (by omega) (LX.setS (LX.setS lq rfl) rfl) ((gq.set (Or.inr (Or.inl rfl))).set (Or.inr (Or.inr rfl))) (fun a ha => ?_)
      rw [hv_na (show B + 201 ≠ B + 202 by omega)]
      by_cases z : a = i
      · rw [z, hv_set_at, hv_set_at]; exact ⟨rfl, rfl⟩
      · rw [hv_set_ne (by omega), hv_set_ne (by omega), hv_na (show B + 202 ≠ B + 201 by omega)]
        exact lo a (by omega)
  refine Ends.eq (b561_0 (n := n) (by (repeat' first | assumption | refine LX.setF _ _ ?_ (by decide +kernel) | refine LX.setS ?_ rfl | refine LX.setA ?_ (by first | assumption | omega))) (by first | assumption | omega)) ?_
  exact ini 3 0 h _ _ rfl l Agr.rf (fun a ha => absurd ha (by omega))
end CORN
