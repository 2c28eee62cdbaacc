/-! L3: profiles (model): whether two lines meet but in ends -/
section MEETM
variable {gv : Nat → Int} {B n d i : Nat} {h : AH} {lv : Nat → Bool} {U0 V0 U1 V1 DU DV SZ : Nat → Int} {u v x p0 p1 r0 r1 du dv S : Int}
theorem v830_is : v830 x = sg3 x := by
  unfold v830 sg3
  rw [ct3, ct5]
  rcases (by omega : x < 0 ∨ x = 0 ∨ 0 < x) with z | z | z
  · rw [if_pos (cmp64_neg.mpr z), if_neg (show ¬ 0 < x by omega), if_pos z]
  · rw [z, cmp64_eq]; rfl
  · have c := cmp64_pos.mpr z
    rw [if_neg (by omega), if_pos c, if_pos z]
theorem sg3_0 : sg3 x = 0 ↔ x = 0 := by unfold sg3; split <;> (try split) <;> omega
theorem sg3_neg {a b : Int} : sg3 a * sg3 b < 0 ↔ a * b < 0 := by
  unfold sg3
  rcases (by omega : a < 0 ∨ a = 0 ∨ 0 < a) with x | x | x <;> rcases (by omega : b < 0 ∨ b = 0 ∨ 0 < b) with y | y | y
  · have := Int.mul_pos_of_neg_of_neg x y
    rw [if_neg (show ¬ 0 < a by omega), if_pos x, if_neg (show ¬ 0 < b by omega), if_pos y]; omega
  · rw [y]; simp
  · have := Int.mul_neg_of_neg_of_pos x y
    rw [if_neg (show ¬ 0 < a by omega), if_pos x, if_pos y]; omega
  · rw [x]; simp
  · rw [x]; simp
  · rw [x]; simp
  · have := Int.mul_neg_of_pos_of_neg x y
    rw [if_pos x, if_neg (show ¬ 0 < b by omega), if_pos y]; omega
  · rw [y]; simp
  · have := Int.mul_pos x y
    rw [if_pos x, if_pos y]; omega
/-- a line's cells -/
def LnMs (B : Nat) (h : AH) (i : Nat) (p0 p1 r0 r1 : Int) : Prop := hv h (B + 168) i = p0 ∧ hv h (B + 169) i = p1 ∧ hv h (B + 170) i = r0 ∧ hv h (B + 171) i = r1
def in64 (x : Int) : Prop := 0 ≤ x ∧ x ≤ 64
def sidZ (p0 p1 r0 r1 u v : Int) : Int := (r0 - p0) * (v - p1) - (r1 - p1) * (u - p0)
theorem v828_is (L : LnMs B h i p0 p1 r0 r1) (hi : i < 24) (b0 : in64 p0) (b1 : in64 p1) (b2 : in64 r0) (b3 : in64 r1) (bu : in64 u) (bv : in64 v) : q828 B h (i : Int) u v ∧ v828 B h (i : Int) u v = sg3 (sidZ p0 p1 r0 r1 u v) := by
  unfold in64 at *
  obtain ⟨a1, a2, a3, a4⟩ := L
  refine ⟨⟨by omega, by omega⟩, ?_⟩
  unfold v828 sidZ
  rw [tn, a1, a2, a3, a4, v830_is]
  have e1 : bop32 100 r0 p0 = r0 - p0 := sub32 (by omega) (by omega)
  have e2 : bop32 100 v p1 = v - p1 := sub32 (by omega) (by omega)
  have e3 : bop32 100 r1 p1 = r1 - p1 := sub32 (by omega) (by omega)
  have e4 : bop32 100 u p0 = u - p0 := sub32 (by omega) (by omega)
  rw [e1, e2, e3, e4]
  have m1 := abs_mul (x := r0 - p0) (y := v - p1) (a := 64) (b := 64) (by omega) (by omega)
  have m2 := abs_mul (x := r1 - p1) (y := u - p0) (a := 64) (b := 64) (by omega) (by omega)
  rw [show uop 2 (r0 - p0) = r0 - p0 from rfl, show uop 2 (v - p1) = v - p1 from rfl, show uop 2 (r1 - p1) = r1 - p1 from rfl, show uop 2 (u - p0) = u - p0 from rfl, mul64 (x := r0 - p0) (y := v - p1) (by omega) (by omega), mul64 (x := r1 - p1) (y := u - p0) (by omega) (by omega), sub64 (by omega) (by omega)]
/-- on a line -/
def onP (u v du dv S : Int) : Prop := ∃ p, (0 ≤ p ∧ p ≤ S) ∧ u = p * du ∧ v = p * dv
theorem on_iff (D : D8 du dv) (hS : 1 ≤ S) (e0 : r0 = p0 + S * du) (e1 : r1 = p1 + S * dv) : (sidZ p0 p1 r0 r1 u v = 0 ∧ min p0 r0 ≤ u ∧ u ≤ max p0 r0 ∧ min p1 r1 ≤ v ∧ v ≤ max p1 r1) ↔ onP (u - p0) (v - p1) du dv S := by
  have fac : sidZ p0 p1 r0 r1 u v = S * (du * (v - p1) - dv * (u - p0)) := by unfold sidZ; rw [e0, e1]; grind
  constructor
  · rintro ⟨z, b1, b2, b3, b4⟩
    rw [fac] at z
    have z0 : du * (v - p1) - dv * (u - p0) = 0 := by
      rcases Int.mul_eq_zero.mp z with y | y
      · omega
      · exact y
    obtain ⟨p, h1, h2⟩ := d8_col D z0
    refine ⟨p, ?_, h1, h2⟩
    clear fac z z0
    obtain ⟨q1, q2, q3⟩ := D
    rcases q1 with rfl | rfl | rfl <;> rcases q2 with rfl | rfl | rfl <;> first
      | omega
      | exact absurd ⟨rfl, rfl⟩ q3
  · rintro ⟨p, ⟨h1, h2⟩, h3, h4⟩
    refine ⟨by rw [fac, h3, h4]; grind, ?_⟩
    clear fac
    obtain ⟨q1, q2, q3⟩ := D
    rcases q1 with rfl | rfl | rfl <;> rcases q2 with rfl | rfl | rfl <;> first
      | omega
      | exact absurd ⟨rfl, rfl⟩ q3
def endP (p0 p1 r0 r1 u v : Int) : Prop := (p0 = u ∧ p1 = v) ∨ (r0 = u ∧ r1 = v)
theorem in_iff (D : D8 du dv) (hS : 1 ≤ S) (e0 : r0 = p0 + S * du) (e1 : r1 = p1 + S * dv) : (onP (u - p0) (v - p1) du dv S ∧ ¬ endP p0 p1 r0 r1 u v) ↔ inS (u - p0) (v - p1) du dv S := by
  unfold endP
  constructor
  · rintro ⟨⟨p, ⟨h1, h2⟩, h3, h4⟩, ne⟩
    refine ⟨p, ⟨?_, ?_⟩, h3, h4⟩
    · rcases (by omega : p = 0 ∨ 0 < p) with z | z
      · rw [z, Int.zero_mul] at h3 h4
        exact absurd (Or.inl ⟨by omega, by omega⟩) ne
      · exact z
    · rcases (by omega : p = S ∨ p < S) with z | z
      · rw [z] at h3 h4
        exact absurd (Or.inr ⟨by omega, by omega⟩) ne
      · exact z
  · rintro ⟨p, ⟨h1, h2⟩, h3, h4⟩
    refine ⟨⟨p, ⟨by omega, by omega⟩, h3, h4⟩, fun z => ?_⟩
    rcases z with ⟨z1, z2⟩ | ⟨z1, z2⟩
    · have := d8_can D (x := p) (y := 0) (by rw [← h3]; omega) (by rw [← h4]; omega)
      omega
    · have := d8_can D (x := p) (y := S) (by rw [← h3]; omega) (by rw [← h4]; omega)
      omega
theorem v688_is (L : LnMs B h i p0 p1 r0 r1) (hi : i < 24) : q688 B h (i : Int) u v ∧ ((v688 B h (i : Int) u v = 1 ∧ endP p0 p1 r0 r1 u v) ∨ (v688 B h (i : Int) u v = 0 ∧ ¬ endP p0 p1 r0 r1 u v)) := by
  obtain ⟨a1, a2, a3, a4⟩ := L
  refine ⟨⟨by omega, by omega⟩, ?_⟩
  unfold v688 endP
  rw [tn, a1, a2, a3, a4]
  simp only [ct0, ct1]
  by_cases c1 : p0 = u <;> by_cases c2 : p1 = v <;> by_cases c3 : r0 = u <;> by_cases c4 : r1 = v <;> simp [c1, c2, c3, c4]
theorem v892_is {y : Int} : v892 x y = min x y := by
  unfold v892
  rw [ct4]
  split <;> omega
theorem v708_is (L : LnMs B h i p0 p1 r0 r1) (hi : i < 24) (b0 : in64 p0) (b1 : in64 p1) (b2 : in64 r0) (b3 : in64 r1) (bu : in64 u) (bv : in64 v) (D : D8 du dv) (hS : 1 ≤ S) (e0 : r0 = p0 + S * du) (e1 : r1 = p1 + S * dv) : q708 B h (i : Int) u v ∧ ((v708 B h (i : Int) u v = 1 ∧ onP (u - p0) (v - p1) du dv S) ∨ (v708 B h (i : Int) u v = 0 ∧ ¬ onP (u - p0) (v - p1) du dv S)) := by
  obtain ⟨q8, v8⟩ := v828_is L hi b0 b1 b2 b3 bu bv
  obtain ⟨a1, a2, a3, a4⟩ := L
  have oi := on_iff (u := u) (v := v) D hS e0 e1
  refine ⟨⟨q8, ?_⟩, ?_⟩
  · cases tst 1 (v828 B h (i : Int) u v) 0
    · exact ⟨by omega, by omega⟩
    · trivial
  · unfold v708
    rw [v8, tn, a1, a2, a3, a4, v891_is, v891_is, v892_is, v892_is, ← oi]
    simp only [ct1, ct2, ct4]
    rw [← sg3_0 (x := sidZ p0 p1 r0 r1 u v)]
    generalize sg3 (sidZ p0 p1 r0 r1 u v) = z
    generalize min p0 r0 = k1
    generalize max p0 r0 = k2
    generalize min p1 r1 = k3
    generalize max p1 r1 = k4
    by_cases c1 : z = 0
    · rw [if_pos c1]
      by_cases c2 : u < k1
      · rw [if_pos c2]; omega
      · rw [if_neg c2]
        by_cases c3 : k2 < u
        · rw [if_pos c3]; omega
        · rw [if_neg c3]
          by_cases c4 : v < k3
          · rw [if_pos c4]; omega
          · rw [if_neg c4]
            by_cases c5 : k4 < v
            · rw [if_pos c5]; omega
            · rw [if_neg c5]; omega
    · rw [if_neg c1]; omega
end MEETM
