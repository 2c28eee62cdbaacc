/-! L3: profiles: what they say -/
section PRS
variable {gv : Nat → Int} {B n d s np nl nd : Nat} {h : AH} {c : Nat → Int} {ab be dw : Nat → Int} {lv dlv dgk : Nat → Bool} {fr to_ dc : Nat → Nat} {x a b : Int}
/-- the sign, the length -/
def sg3 (x : Int) : Int := if 0 < x then 1 else if x < 0 then -1 else 0
def sz8 (a b : Int) : Int := max (if a < 0 then -a else a) (if b < 0 then -b else b)
/-- no level, upright or diagonal line -/
def badD (a b : Int) : Prop := (a = 0 ∧ b = 0) ∨ (a ≠ 0 ∧ b ≠ 0 ∧ a ≠ b ∧ a ≠ -b)
theorem seg_ok (h : ¬ badD a b) : (D8 (sg3 a) (sg3 b) ∧ 1 ≤ sz8 a b) ∧ a = sz8 a b * sg3 a ∧ b = sz8 a b * sg3 b := by
  unfold badD at h
  unfold D8 sg3 sz8
  rcases (by omega : a < 0 ∨ a = 0 ∨ 0 < a) with x | x | x <;> rcases (by omega : b < 0 ∨ b = 0 ∨ 0 < b) with y | y | y
  · rw [if_neg (show ¬ 0 < a by omega), if_pos x, if_neg (show ¬ 0 < b by omega), if_pos y, if_pos x, if_pos y]; omega
  · rw [if_neg (show ¬ 0 < a by omega), if_pos x, if_neg (show ¬ 0 < b by omega), if_neg (show ¬ b < 0 by omega), if_pos x, if_neg (show ¬ b < 0 by omega)]; omega
  · rw [if_neg (show ¬ 0 < a by omega), if_pos x, if_pos y, if_pos x, if_neg (show ¬ b < 0 by omega)]; omega
  · rw [if_neg (show ¬ 0 < a by omega), if_neg (show ¬ a < 0 by omega), if_neg (show ¬ 0 < b by omega), if_pos y, if_neg (show ¬ a < 0 by omega), if_pos y]; omega
  · exact absurd (Or.inl ⟨x, y⟩) h
  · rw [if_neg (show ¬ 0 < a by omega), if_neg (show ¬ a < 0 by omega), if_pos y, if_neg (show ¬ a < 0 by omega), if_neg (show ¬ b < 0 by omega)]; omega
  · rw [if_pos x, if_neg (show ¬ 0 < b by omega), if_pos y, if_neg (show ¬ a < 0 by omega), if_pos y]; omega
  · rw [if_pos x, if_neg (show ¬ 0 < b by omega), if_neg (show ¬ b < 0 by omega), if_neg (show ¬ a < 0 by omega), if_neg (show ¬ b < 0 by omega)]; omega
  · rw [if_pos x, if_pos y, if_neg (show ¬ a < 0 by omega), if_neg (show ¬ b < 0 by omega)]; omega
theorem v436_is : v436 x = sg3 x := by
  unfold v436 sg3
  rw [ct5, ct3]
theorem v891_is {y : Int} : v891 x y = max x y := by
  unfold v891
  rw [ct2]
  split <;> omega
/-- where lines begin and end -/
def lU0 (ab : Nat → Int) (fr : Nat → Nat) (k : Nat) : Int := ab (2 * fr k)
def lV0 (ab : Nat → Int) (fr : Nat → Nat) (k : Nat) : Int := ab (2 * fr k + 1)
def lDU (ab : Nat → Int) (fr to_ : Nat → Nat) (k : Nat) : Int := sg3 (lU0 ab to_ k - lU0 ab fr k)
def lDV (ab : Nat → Int) (fr to_ : Nat → Nat) (k : Nat) : Int := sg3 (lV0 ab to_ k - lV0 ab fr k)
def lSZ (ab : Nat → Int) (fr to_ : Nat → Nat) (k : Nat) : Int := sz8 (lU0 ab to_ k - lU0 ab fr k) (lV0 ab to_ k - lV0 ab fr k)
/-- what may be wrong with a profile -/
def pA2 (n : Nat) (ab be : Nat → Int) (lv : Nat → Bool) (fr to_ : Nat → Nat) (nd : Nat) (dlv : Nat → Bool) (dc : Nat → Nat) : Prop := (∃ k, k < 24 ∧ lv k = true ∧ (whB n ab be (fr k) && whB n ab be (to_ k)) = false) ∨ ∃ k, k < nd ∧ dlv k = true ∧ whB n ab be (dc k) = false
def pA3 (ab : Nat → Int) (lv : Nat → Bool) (fr to_ : Nat → Nat) : Prop := ∃ k, k < 24 ∧ lv k = true ∧ badD (lU0 ab to_ k - lU0 ab fr k) (lV0 ab to_ k - lV0 ab fr k)
def pA4 (n nd : Nat) (dlv dgk : Nat → Bool) (dw : Nat → Int) : Prop := ∃ k, k < nd ∧ dlv k = true ∧ ¬ (dgk k = true ∧ 1 ≤ dw k ∧ dw k ≤ (n : Int))
def pA5 (ab : Nat → Int) (lv : Nat → Bool) (fr to_ : Nat → Nat) : Prop := ∃ k, k < 24 ∧ lv k = true ∧ ¬ (sumN (enF lv (lU0 ab fr) (lV0 ab fr) (lU0 ab to_) (lV0 ab to_) (lU0 ab fr k) (lV0 ab fr k)) 24 = 2 ∧ sumN (enF lv (lU0 ab fr) (lV0 ab fr) (lU0 ab to_) (lV0 ab to_) (lU0 ab to_ k) (lV0 ab to_ k)) 24 = 2)
def pA6 (ab : Nat → Int) (lv : Nat → Bool) (fr to_ : Nat → Nat) : Prop := ∃ k m, k < m ∧ m < 24 ∧ lv k = true ∧ lv m = true ∧ MtSk (lU0 ab fr) (lV0 ab fr) (lDU ab fr to_) (lDV ab fr to_) (lSZ ab fr to_) k m
/-- the profile's number -/
def PrR (n : Nat) (wall : Bool) (ab be : Nat → Int) (lv : Nat → Bool) (fr to_ : Nat → Nat) (nd : Nat) (dlv : Nat → Bool) (dc : Nat → Nat) (dgk : Nat → Bool) (dw : Nat → Int) (x : Int) : Prop :=
  (pA2 n ab be lv fr to_ nd dlv dc ∧ x = 2) ∨ (¬ pA2 n ab be lv fr to_ nd dlv dc ∧ ((pA3 ab lv fr to_ ∧ x = 3) ∨ (¬ pA3 ab lv fr to_ ∧ ((wall = true ∧ x = 0) ∨ (wall = false ∧ ((pA4 n nd dlv dgk dw ∧ x = 4) ∨ (¬ pA4 n nd dlv dgk dw ∧ ((pA5 ab lv fr to_ ∧ x = 5) ∨ (¬ pA5 ab lv fr to_ ∧ ((pA6 ab lv fr to_ ∧ x = 6) ∨ (¬ pA6 ab lv fr to_ ∧ x = 0)))))))))))
/-- lines of the desk's sketch -/
def LnD (c : Nat → Int) (s np nl : Nat) (lv : Nat → Bool) (fr to_ : Nat → Nat) : Prop := (c (skA s + 27) = (nl : Int) ∧ nl ≤ 24 ∧ ∀ k, nl ≤ k → lv k = false) ∧ ∀ k, k < nl → c (liA s k) = ((fr k : Nat) : Int) ∧ c (liA s k + 1) = ((to_ k : Nat) : Int) ∧ c (liA s k + 2) = b2i (lv k) ∧ (lv k = true → fr k < np ∧ to_ k < np)
/-- discs of the desk's sketch -/
def diA (s k : Nat) : Nat := skA s + 101 + 63 * k
def DcD (c : Nat → Int) (s np nd : Nat) (dlv : Nat → Bool) (dc : Nat → Nat) : Prop := (c (skA s + 100) = (nd : Int) ∧ nd ≤ 6) ∧ ∀ k, k < nd → c (diA s k) = ((dc k : Nat) : Int) ∧ c (diA s k + 1) = b2i (dlv k) ∧ (dlv k = true → dc k < np)
theorem v396_is {k : Nat} (hs : s < 6) (hk : k < 6) : v396 (s : Int) (k : Int) = ((diA s k : Nat) : Int) := by
  unfold v396
  have : skA s < 23000 := by unfold skA; omega
  rw [v391_is hs, show bop32 96 ((skA s : Nat) : Int) 100 = ((skA s + 100 : Nat) : Int) from addK (k := 100) (by omega), show bop32 96 ((skA s + 100 : Nat) : Int) 1 = ((skA s + 101 : Nat) : Int) from addK (k := 1) (by omega), show bop32 104 63 (k : Int) = ((63 * k : Nat) : Int) from mulNN (x := 63) (by omega)]
  exact addNN (by omega)
theorem v411_is {k : Nat} (hc : ∀ z, z < 37368 → hv h (B + 2) z = c z) (hs : s < 6) (L : LnD c s np nl lv fr to_) (hk : k < 24) : q411 B h (s : Int) (k : Int) ∧ v411 B h (s : Int) (k : Int) = b2i (lv k) := by
  obtain ⟨⟨L1, L2, L3⟩, L4⟩ := L
  have sk0 : skA s < 23000 := by unfold skA; omega
  obtain ⟨p1, p2⟩ := cell_is (i := skA s + 27) hc (by omega)
  have q419_ : q419 B h (s : Int) := by
    unfold q419
    rw [v391_is hs, show bop32 96 ((skA s : Nat) : Int) 27 = ((skA s + 27 : Nat) : Int) from addK (k := 27) (by omega)]
    exact p1
  have v419_ : v419 B h (s : Int) = (nl : Int) := by
    unfold v419
    rw [v391_is hs, show bop32 96 ((skA s : Nat) : Int) 27 = ((skA s + 27 : Nat) : Int) from addK (k := 27) (by omega), p2, L1]
  unfold q411 v411
  rw [v419_, tst2_f]
  by_cases z : k < nl
  · have lk : liA s k < 30000 := by unfold liA; omega
    obtain ⟨b1, b2⟩ := cell_is (i := liA s k + 2) hc (by omega)
    rw [tst3_f z, v418_is hs hk, show bop32 96 ((liA s k : Nat) : Int) 2 = ((liA s k + 2 : Nat) : Int) from addK (k := 2) (by omega), b2, (L4 k z).2.2.1]
    refine ⟨⟨q419_, b1⟩, ?_⟩
    show cond (tst 1 (b2i (lv k)) 1) (0 : Int) 1 = _
    rw [ct1]
    cases lv k <;> rfl
  · have t3 : tst 3 (k : Int) (nl : Int) = true := by
      have : (cond (tst 3 (k : Int) (nl : Int)) (0 : Int) 1) = 0 := by rw [ct3, if_neg (by omega)]
      cases e : tst 3 (k : Int) (nl : Int)
      · rw [e] at this; cases this
      · rfl
    rw [t3, L3 k (by omega)]
    exact ⟨⟨q419_, trivial⟩, rfl⟩
theorem v398_is (hc : ∀ z, z < 37368 → hv h (B + 2) z = c z) (hs : s < 6) (D : DcD c s np nd dlv dc) : q398 B h (s : Int) ∧ v398 B h (s : Int) = (nd : Int) := by
  have sk0 : skA s < 23000 := by unfold skA; omega
  obtain ⟨p1, p2⟩ := cell_is (i := skA s + 100) hc (by omega)
  unfold q398 v398
  rw [v391_is hs, show bop32 96 ((skA s : Nat) : Int) 100 = ((skA s + 100 : Nat) : Int) from addK (k := 100) (by omega), p2, D.1.1]
  exact ⟨p1, rfl⟩
theorem v408_is {k : Nat} (hc : ∀ z, z < 37368 → hv h (B + 2) z = c z) (hs : s < 6) (D : DcD c s np nd dlv dc) (hk : k < nd) : q408 B h (s : Int) (k : Int) ∧ v408 B h (s : Int) (k : Int) = b2i (dlv k) := by
  obtain ⟨a1, a2⟩ := v398_is hc hs D
  have n6 := D.1.2
  have dk : diA s k < 30000 := by unfold diA skA; omega
  obtain ⟨b1, b2⟩ := cell_is (i := diA s k + 1) hc (by omega)
  unfold q408 v408
  rw [a2, tst2_f, tst3_f hk, v396_is hs (by omega), show bop32 96 ((diA s k : Nat) : Int) 1 = ((diA s k + 1 : Nat) : Int) from addK (k := 1) (by omega), b2, (D.2 k hk).2.1]
  refine ⟨⟨a1, b1⟩, ?_⟩
  show cond (tst 1 (b2i (dlv k)) 1) (0 : Int) 1 = _
  rw [ct1]
  cases dlv k <;> rfl
end PRS
