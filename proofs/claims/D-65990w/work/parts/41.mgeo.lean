-- deps: 39 40
-- blocks: 3 4 5
/-! L3: the model's reading methods over grains -/
section MG2
variable {gv : Nat → Int} {B n d : Nat} {h : AH}
theorem coord_is (m : TbM B h) (hn : n ≤ 52) {g a : Nat} (hg : g < gN n) (ha : a < 3) : q581 B n h (g : Int) (a : Int) ∧ v581 B n h (g : Int) (a : Int) = ((g8 n g a : Nat) : Int) := by
  have h1 := gN_le hn
  obtain ⟨hn0, hx, hy, hz, ht⟩ := g_lt hg
  obtain ⟨e0, e1, e2, -⟩ := m.1 _ ht
  unfold q581 v581 q588 q589 q590
  rw [gSo_is, cubeX_is hn0 hn (by omega), cubeY_is hn0 hn (by omega), cubeZ_is hn0 hn (by omega), tn, e0, e1, e2, tst1, tst1]
  have r0 := rT_lt ⟨gSo g, ht⟩ 0
  have r1 := rT_lt ⟨gSo g, ht⟩ 1
  have r2 := rT_lt ⟨gSo g, ht⟩ 2
  simp only at r0 r1 r2
  have r0 : 1 ≤ rT (gSo g) 0 ∧ rT (gSo g) 0 < 8 := r0
  have r1 : 1 ≤ rT (gSo g) 1 ∧ rT (gSo g) 1 < 8 := r1
  have r2 : 1 ≤ rT (gSo g) 2 ∧ rT (gSo g) 2 < 8 := r2
  rw [show (8 : Int) = ((8 : Nat) : Int) from rfl, mulNN (by omega), mulNN (by omega), mulNN (by omega), addNN (by omega), addNN (by omega), addNN (by omega)]
  have hn1 : (n : Int) ≠ 0 := by omega
  obtain rfl | rfl | rfl : a = 0 ∨ a = 1 ∨ a = 2 := by omega
  · exact ⟨⟨hn1, by omega, by omega⟩, rfl⟩
  · exact ⟨⟨hn1, by omega, by omega⟩, rfl⟩
  · exact ⟨⟨hn1, by omega, by omega⟩, rfl⟩
theorem gAt_is (m : TbM B h) (hn : n ≤ 52) {x y z : Int} (hty : 0 ≤ x → 0 ≤ y → 0 ≤ z → tyN (x.toNat % 8) (y.toNat % 8) (z.toNat % 8) < 24) : q664 B n h x y z ∧ v664 B n h x y z = gAt n x y z := by
  have e8 : bop32 104 8 (n : Int) = ((8 * n : Nat) : Int) := mulNN (x := 8) (by omega)
  unfold q664 v664 gAt
  rw [e8, tst2, tst2, tst2, tst3, tst3, tst2]
  by_cases c : x < 0 ∨ y < 0 ∨ z < 0 ∨ 8 * (n : Int) ≤ x ∨ 8 * (n : Int) ≤ y ∨ 8 * (n : Int) ≤ z
  · rw [if_pos c]
    by_cases c1 : x < 0
    · simp only [c1, decide_true, cond_true, and_self]
    by_cases c2 : y < 0
    · simp only [c1, c2, decide_true, decide_false, cond_true, cond_false, and_self]
    by_cases c3 : z < 0
    · simp only [c1, c2, c3, decide_true, decide_false, cond_true, cond_false, and_self]
    by_cases c4 : x < ((8 * n : Nat) : Int)
    · by_cases c5 : y < ((8 * n : Nat) : Int)
      · have c6 : ¬ z < ((8 * n : Nat) : Int) := by omega
        simp only [c1, c2, c3, c4, c5, c6, decide_true, decide_false, Bool.not_true, cond_false, and_self]
      · simp only [c1, c2, c3, c4, c5, decide_true, decide_false, Bool.not_true, Bool.not_false, cond_true, cond_false, and_self]
    · simp only [c1, c2, c3, c4, decide_false, Bool.not_false, cond_true, cond_false, and_self]
  · rw [if_neg c]
    have c1 : ¬ x < 0 := by omega
    have c2 : ¬ y < 0 := by omega
    have c3 : ¬ z < 0 := by omega
    have c4 : x < ((8 * n : Nat) : Int) := by omega
    have c5 : y < ((8 * n : Nat) : Int) := by omega
    have c6 : z < ((8 * n : Nat) : Int) := by omega
    simp only [c1, c2, c3, c4, c5, c6, decide_true, decide_false, Bool.not_true, cond_true, cond_false]
    obtain ⟨x, rfl⟩ : ∃ k : Nat, x = (k : Int) := ⟨x.toNat, by omega⟩
    obtain ⟨y, rfl⟩ : ∃ k : Nat, y = (k : Int) := ⟨y.toNat, by omega⟩
    obtain ⟨z, rfl⟩ : ∃ k : Nat, z = (k : Int) := ⟨z.toNat, by omega⟩
    have ht := hty (by omega) (by omega) (by omega)
    simp only [Int.toNat_natCast] at ht ⊢
    rw [and7, and7, and7, shr3 (by omega), shr3 (by omega), shr3 (by omega), show (8 : Int) = ((8 : Nat) : Int) from rfl, show (64 : Int) = ((64 : Nat) : Int) from rfl, mulNN (by omega), mulNN (by omega), addNN (by omega), addNN (by omega), tn, m.2.1 _ _ _ (Nat.mod_lt _ (by decide)) (Nat.mod_lt _ (by decide)) (Nat.mod_lt _ (by decide)), if_pos ht, grain_is hn (by omega) (by omega) (by omega) ht]
    exact ⟨⟨by omega, by omega⟩, rfl⟩
/-- how a grain of sort t goes on beyond its facet 0, along an axis -/
def stpC (t a : Nat) : Int := if aC t = a then (if hiC t then 1 else -1) else 0
/-- the grain beyond facet f of grain g; -1 -/
def outR (n : Nat) (x y z : Int) : Prop := x < 0 ∨ y < 0 ∨ z < 0 ∨ (n : Int) ≤ x ∨ (n : Int) ≤ y ∨ (n : Int) ≤ z
theorem outR_dec (n : Nat) (x y z : Int) : outR n x y z ∨ ¬ outR n x y z := Classical.em _
def inRm (n : Nat) (x y z : Int) : Bool := decide (0 ≤ x) && (decide (0 ≤ y) && (decide (0 ≤ z) && (decide (x < n) && (decide (y < n) && decide (z < n)))))
theorem inRm_iff {n : Nat} {x y z : Int} : inRm n x y z = true ↔ 0 ≤ x ∧ 0 ≤ y ∧ 0 ≤ z ∧ x < n ∧ y < n ∧ z < n := by
  unfold inRm; simp only [Bool.and_eq_true, decide_eq_true_eq]
def nbr (n g f : Nat) : Int := if f = 0 then (if inRm n (gX n g + stpC (gSo g) 0) (gY n g + stpC (gSo g) 1) (gZ n g + stpC (gSo g) 2) then ((gI n (gX n g + stpC (gSo g) 0).toNat (gY n g + stpC (gSo g) 1).toNat (gZ n g + stpC (gSo g) 2).toNat (nxt (gSo g) 0) : Nat) : Int) else -1) else ((gI n (gX n g) (gY n g) (gZ n g) (nxt (gSo g) f) : Nat) : Int)
theorem aC_rest : ∀ t : Fin 24, rT t (aC t) = if hiC t then 7 else 1 := by decide +kernel
theorem gI_sub {g t : Nat} : gI n (gX n g) (gY n g) (gZ n g) t = g - gSo g + t := by
  have := @gI_g n g
  unfold gI at *; omega
theorem rest_is (m : TbM B h) {t a : Nat} (ht : t < 24) (ha : a < 3) : q804 B h (t : Int) (a : Int) ∧ v804 B h (t : Int) (a : Int) = ((rT t a : Nat) : Int) := by
  obtain ⟨e0, e1, e2, -⟩ := m.1 _ ht
  unfold q804 v804
  rw [tn, e0, e1, e2]
  obtain rfl | rfl | rfl : a = 0 ∨ a = 1 ∨ a = 2 := by omega
  · exact ⟨⟨by omega, by omega⟩, rfl⟩
  · exact ⟨⟨by omega, by omega⟩, rfl⟩
  · exact ⟨⟨by omega, by omega⟩, rfl⟩
theorem stp_is {t a : Nat} (ht : t < 24) (x : Nat) (hx : x < 1000) : bop32 96 (x : Int) (cond (tst 1 ((aC t : Nat) : Int) (a : Int)) 0 (cond (tst 1 ((rT t (aC t) : Nat) : Int) 1) 1 (-1))) = (x : Int) + stpC t a := by
  have har : rT t (aC t) = if hiC t then 7 else 1 := aC_rest ⟨t, ht⟩
  unfold stpC
  rw [har, tst1, tst1]
  by_cases c : aC t = a
  · have c2 : ((aC t : Nat) : Int) = (a : Int) := by omega
    rw [if_pos c]
    cases hiC t
    · simp only [c2, decide_true, Bool.not_true, cond_false, Bool.false_eq_true, if_false]
      exact add32 (y := -1) (by omega) (by omega)
    · simp only [c2, decide_true, Bool.not_true, cond_false, if_true]
      exact add32 (y := 1) (by omega) (by omega)
  · have c2 : ¬ ((aC t : Nat) : Int) = (a : Int) := by omega
    rw [if_neg c]
    simp only [c2, decide_false, Bool.not_false, cond_true]
    exact add32 (by omega) (by omega)
theorem nbr_is (m : TbM B h) (hn : n ≤ 52) {g f : Nat} (hg : g < gN n) (hf : f < 4) : q756 B n h (g : Int) (f : Int) ∧ v756 B n h (g : Int) (f : Int) = nbr n g f := by
  have h1 := gN_le hn
  obtain ⟨hn0, hx, hy, hz, ht⟩ := g_lt hg
  obtain ⟨-, -, -, -, -, e3, e4⟩ := m.1 _ ht
  have hnx : nxt (gSo g) f < 24 := nxt_lt ⟨gSo g, ht⟩ ⟨f, hf⟩
  have hac : aC (gSo g) < 3 := (ax_lt ⟨gSo g, ht⟩).2.2
  have hn1 : (n : Int) ≠ 0 := by omega
  have hgs : gSo g ≤ g := Nat.mod_le _ _
  obtain ⟨r1, r2⟩ := rest_is m ht hac
  have s0 := stp_is (a := 0) ht (gX n g) (by omega)
  have s1 := stp_is (a := 1) ht (gY n g) (by omega)
  have s2 := stp_is (a := 2) ht (gZ n g) (by omega)
  simp only [show ((0 : Nat) : Int) = 0 from rfl, show ((1 : Nat) : Int) = 1 from rfl, show ((2 : Nat) : Int) = 2 from rfl] at s0 s1 s2
  unfold q756 v756 q588 q589 q590 nbr
  rw [gSo_is, cubeX_is hn0 hn (by omega), cubeY_is hn0 hn (by omega), cubeZ_is hn0 hn (by omega), show (4 : Int) = ((4 : Nat) : Int) from rfl, mulNN (by omega), addNN (by omega), tn, tn, e3, e4 f hf, r2, s0, s1, s2, subNN (by omega) hgs, addNN (by omega)]
  by_cases hf0 : f = 0
  · subst hf0
    have t5 : tst 5 ((0 : Nat) : Int) 0 = true := rfl
    rw [t5, if_pos rfl]
    refine ⟨⟨⟨by omega, by omega⟩, ⟨by omega, by omega⟩, r1, hn1, hn1, hn1⟩, ?_⟩
    rw [cond_true, tst2, tst2, tst2, tst3, tst3, tst2]
    generalize (gX n g : Int) + stpC (gSo g) 0 = x
    generalize (gY n g : Int) + stpC (gSo g) 1 = y
    generalize (gZ n g : Int) + stpC (gSo g) 2 = z
    unfold inRm
    by_cases c1 : x < 0
    · simp [c1, show ¬ 0 ≤ x by omega]
    by_cases c2 : y < 0
    · simp [c1, c2, show ¬ 0 ≤ y by omega]
    by_cases c3 : z < 0
    · simp [c1, c2, c3, show ¬ 0 ≤ z by omega]
    by_cases c4 : x < n
    · by_cases c5 : y < n
      · by_cases c6 : z < n
        · obtain ⟨x, rfl⟩ : ∃ k : Nat, x = (k : Int) := ⟨x.toNat, by omega⟩
          obtain ⟨y, rfl⟩ : ∃ k : Nat, y = (k : Int) := ⟨y.toNat, by omega⟩
          obtain ⟨z, rfl⟩ : ∃ k : Nat, z = (k : Int) := ⟨z.toNat, by omega⟩
          rw [grain_is hn (by omega) (by omega) (by omega) hnx]
          simp only [c1, c2, c3, c4, c5, c6, show 0 ≤ (x : Int) by omega, show 0 ≤ (y : Int) by omega, show 0 ≤ (z : Int) by omega, decide_true, decide_false, Bool.not_true, cond_true, cond_false, Bool.and_self, if_true, Int.toNat_natCast]
        · simp [c1, c2, c3, c4, c5, c6]
      · simp [c1, c2, c3, c4, c5]
    · simp [c1, c2, c3, c4]
  · have t5 : tst 5 (f : Int) 0 = false := by rw [tst5]; simp [show 0 < f by omega]
    rw [t5, if_neg hf0]
    exact ⟨⟨⟨by omega, by omega⟩, trivial⟩, by rw [cond_false, gI_sub]⟩
theorem nbr_lt (hn : n ≤ 52) {g f : Nat} (hg : g < gN n) (hf : f < 4) : nbr n g f = -1 ∨ ∃ b : Nat, nbr n g f = (b : Int) ∧ b < gN n := by
  obtain ⟨hn0, hx, hy, hz, ht⟩ := g_lt hg
  have hnx : nxt (gSo g) f < 24 := nxt_lt ⟨gSo g, ht⟩ ⟨f, hf⟩
  unfold nbr
  split
  · next e =>
    subst e
    split
    · next c => 
      obtain ⟨c1, c2, c3, c4, c5, c6⟩ := inRm_iff.mp c
      exact Or.inr ⟨_, rfl, gI_lt (by omega) (by omega) (by omega) hnx⟩
    · exact Or.inl rfl
  · exact Or.inr ⟨_, rfl, gI_lt hx hy hz hnx⟩
/-- a facet of the border of S -/
def bdr (n : Nat) (S : Nat → Bool) (k : Nat) : Bool := S (k / 4) && (decide (nbr n (k / 4) (k % 4) < 0) || !S (nbr n (k / 4) (k % 4)).toNat)
theorem bdr_is {s : Nat} {S : Nat → Bool} (m : TbM B h) (hn : n ≤ 52) (hs : s < 19) (b : MB B n h s S) {k : Nat} (hk : k < 4 * gN n) : q682 B n h (s : Int) (k : Int) ∧ v682 B n h (s : Int) (k : Int) = if bdr n S k then 1 else 0 := by
  have h1 := gN_le hn
  have hg : k / 4 < gN n := by omega
  obtain ⟨a1, a2⟩ := has_is b hs hn hg
  obtain ⟨b1, b2⟩ := nbr_is m hn hg (show k % 4 < 4 by omega)
  unfold q682 v682 bdr
  rw [show (4 : Int) = ((4 : Nat) : Int) from rfl, divNN (by omega) (by decide), modNN (by decide) (by decide), a2, b2]
  cases hS : S (k / 4)
  · exact ⟨⟨a1, trivial⟩, rfl⟩
  · rcases nbr_lt hn hg (show k % 4 < 4 by omega) with e | ⟨c, e, hc⟩
    · rw [e]; exact ⟨⟨a1, b1, trivial⟩, rfl⟩
    · obtain ⟨c1, c2⟩ := has_is b hs hn hc
      rw [e]
      have : ¬ (c : Int) < 0 := by omega
      simp only [if_true, tst1, tst2, this, decide_false, cond_false, show ¬ (1 : Int) = 0 by decide, Bool.not_false, cond_true, c2, Int.toNat_natCast, Bool.true_and, Bool.false_or]
      refine ⟨⟨a1, b1, c1⟩, ?_⟩
      cases S c <;> simp
end MG2
