/-! L3: the edits of a sketch keep its cells sound -/
section SKVE
variable {c c' b : Nat → Int} {k p s np nl nd nk m : Nat} {x y kd x3 x4 x5 : Int}
theorem SkV.l3 (V : SkV c s) (n2 : c (skA s + 2) ≤ c' (skA s + 2)) (e27 : c' (skA s + 27) = c (skA s + 27)) (e : ∀ z, skA s + 28 ≤ z → z < skA s + 100 → c' z = c z) : ∀ k : Nat, (k : Int) < c' (skA s + 27) → (0 ≤ c' (liA s k) ∧ c' (liA s k) < c' (skA s + 2)) ∧ (0 ≤ c' (liA s k + 1) ∧ c' (liA s k + 1) < c' (skA s + 2)) ∧ (c' (liA s k + 2) = 0 ∨ c' (liA s k + 2) = 1) := fun k hk => by
  have v2 := V.1.2.1
  rw [e27] at hk
  have lk : liA s k = skA s + 28 + 3 * k := rfl
  obtain ⟨a, b, d⟩ := V.2.2.1 k hk
  rw [e _ (by omega) (by omega), e (liA s k + 1) (by omega) (by omega), e (liA s k + 2) (by omega) (by omega)]
  exact ⟨⟨a.1, by omega⟩, ⟨b.1, by omega⟩, d⟩
theorem SkV.d4 (V : SkV c s) (n2 : c (skA s + 2) ≤ c' (skA s + 2)) (e100 : c' (skA s + 100) = c (skA s + 100)) (e : ∀ z, skA s + 101 ≤ z → z < skA s + 479 → c' z = c z) : ∀ k : Nat, (k : Int) < c' (skA s + 100) → (0 ≤ c' (diA s k) ∧ c' (diA s k) < c' (skA s + 2)) ∧ (c' (diA s k + 1) = 0 ∨ c' (diA s k + 1) = 1) := fun k hk => by
  have v2 := V.1.2.2.1
  rw [e100] at hk
  have lk : diA s k = skA s + 101 + 63 * k := rfl
  obtain ⟨a, d⟩ := V.2.2.2.1 k hk
  rw [e _ (by omega) (by omega), e (diA s k + 1) (by omega) (by omega)]
  exact ⟨⟨a.1, by omega⟩, d⟩
theorem SkV.c5 (V : SkV c s) (n2 : c (skA s + 2) ≤ c' (skA s + 2)) (n27 : c (skA s + 27) ≤ c' (skA s + 27)) (hk : (k : Int) < c (skA s + 479)) (e : ∀ z, coA s k ≤ z → z < coA s k + 4 → c' z = c z) (e4 : c' (coA s k + 4) = 0 ∨ c' (coA s k + 4) = 1) : (0 ≤ c' (coA s k) ∧ c' (coA s k) < 24) ∧ (c' (coA s k + 4) = 0 ∨ c' (coA s k + 4) = 1) ∧ (c' (coA s k) < 17 → (0 ≤ c' (coA s k + 1) ∧ c' (coA s k + 1) < c' (skA s + 2)) ∧ (2 ≤ c' (coA s k) → 0 ≤ c' (coA s k + 2) ∧ c' (coA s k + 2) < c' (skA s + 2)) ∧ (11 ≤ c' (coA s k) → 0 ≤ c' (coA s k + 3) ∧ c' (coA s k + 3) < c' (skA s + 2))) ∧ (17 ≤ c' (coA s k) → (0 ≤ c' (coA s k + 1) ∧ c' (coA s k + 1) < c' (skA s + 27)) ∧ 0 ≤ c' (coA s k + 2) ∧ c' (coA s k + 2) < c' (skA s + 27)) := by
  obtain ⟨a, b, d1, d2⟩ := V.2.2.2.2 k hk
  rw [e _ (by omega) (by omega), e (coA s k + 1) (by omega) (by omega), e (coA s k + 2) (by omega) (by omega), e (coA s k + 3) (by omega) (by omega)]
  refine ⟨a, e4, fun z => ?_, fun z => ?_⟩
  · obtain ⟨x1, x2, x3⟩ := d1 z
    exact ⟨⟨x1.1, by omega⟩, fun y => ⟨(x2 y).1, by have := x2 y; omega⟩, fun y => ⟨(x3 y).1, by have := x3 y; omega⟩⟩
  · obtain ⟨x1, x2⟩ := d2 z
    exact ⟨⟨x1.1, by omega⟩, x2.1, by omega⟩
theorem SkV.pt (V : SkV c s) (V' : SkC (ptC c s np x y) s) (e2 : c (skA s + 2) = (np : Int)) (p12 : np < 12) (hx : -200 ≤ x ∧ x ≤ 200) (hy : -200 ≤ y ∧ y ≤ 200) : SkV (ptC c s np x y) s := by
  have c2 : ptC c s np x y (skA s + 2) = (np : Int) + 1 := by rw [pt_rd, if_neg (by omega), if_neg (by omega), if_pos rfl]; omega
  have e : ∀ z, skA s + 27 ≤ z → ptC c s np x y z = c z := fun z hz => pt_ne (by omega) (by omega) (by omega)
  have n2 : c (skA s + 2) ≤ ptC c s np x y (skA s + 2) := by omega
  refine ⟨V', fun j hj => ?_, V.l3 n2 (e _ (by omega)) (fun z h1 h2 => e z (by omega)), V.d4 n2 (e _ (by omega)) (fun z h1 h2 => e z (by omega)), fun k hk => ?_⟩
  · rw [c2] at hj
    rw [pt_rd]
    by_cases j1 : j = 2 * np + 1
    · rw [if_pos (by omega)]; exact hy
    · rw [if_neg (by omega)]
      by_cases j2 : j = 2 * np
      · rw [if_pos (by omega)]; exact hx
      · rw [if_neg (by omega), if_neg (by omega)]
        exact V.2.1 j (by omega)
  · have lk : coA s k = skA s + 480 + 66 * k := rfl
    rw [e _ (by omega)] at hk
    exact V.c5 n2 (by rw [e _ (by omega)]; exact Int.le_refl _) hk (fun z h1 h2 => e z (by omega)) (by rw [e _ (by omega)]; exact (V.2.2.2.2 k hk).2.1)
theorem SkV.dg (V : SkV c s) (V' : SkC (dgC c s p x y) s) (p12 : p < 12) (hx : -200 ≤ x ∧ x ≤ 200) (hy : -200 ≤ y ∧ y ≤ 200) : SkV (dgC c s p x y) s := by
  have c2 : dgC c s p x y (skA s + 2) = c (skA s + 2) := dg_ne (by omega) (by omega)
  have e : ∀ z, skA s + 27 ≤ z → dgC c s p x y z = c z := fun z hz => dg_ne (by omega) (by omega)
  have n2 : c (skA s + 2) ≤ dgC c s p x y (skA s + 2) := by omega
  refine ⟨V', fun j hj => ?_, V.l3 n2 (e _ (by omega)) (fun z h1 h2 => e z (by omega)), V.d4 n2 (e _ (by omega)) (fun z h1 h2 => e z (by omega)), fun k hk => ?_⟩
  · rw [c2] at hj
    rw [dg_rd]
    by_cases j1 : j = 2 * p + 1
    · rw [if_pos (by omega)]; exact hy
    · rw [if_neg (by omega)]
      by_cases j2 : j = 2 * p
      · rw [if_pos (by omega)]; exact hx
      · rw [if_neg (by omega)]
        exact V.2.1 j hj
  · have lk : coA s k = skA s + 480 + 66 * k := rfl
    rw [e _ (by omega)] at hk
    exact V.c5 n2 (by rw [e _ (by omega)]; exact Int.le_refl _) hk (fun z h1 h2 => e z (by omega)) (by rw [e _ (by omega)]; exact (V.2.2.2.2 k hk).2.1)
theorem SkV.ln (V : SkV c s) (V' : SkC (lnC c s nl x y) s) (e2 : c (skA s + 27) = (nl : Int)) (l24 : nl < 24) (hx : 0 ≤ x ∧ x < c (skA s + 2)) (hy : 0 ≤ y ∧ y < c (skA s + 2)) : SkV (lnC c s nl x y) s := by
  have la : liA s nl = skA s + 28 + 3 * nl := rfl
  have hl : skA s + 27 < liA s nl := by omega
  have v1 := V.1.1
  have c27 : lnC c s nl x y (skA s + 27) = (nl : Int) + 1 := by rw [ln_rd, if_neg (by omega), if_neg (by omega), if_neg (by omega), if_pos rfl]; omega
  have c2 : lnC c s nl x y (skA s + 2) = c (skA s + 2) := ln_ne (by omega) hl
  have e : ∀ z, skA s + 100 ≤ z → lnC c s nl x y z = c z := fun z hz => ln_ne (by omega) hl
  have n2 : c (skA s + 2) ≤ lnC c s nl x y (skA s + 2) := by omega
  refine ⟨V', fun j hj => ?_, fun k hk => ?_, V.d4 n2 (e _ (by omega)) (fun z h1 h2 => e z (by omega)), fun k hk => ?_⟩
  · rw [c2] at hj
    rw [ln_ne (by omega) hl]
    exact V.2.1 j hj
  · rw [c27] at hk
    have lk : liA s k = skA s + 28 + 3 * k := rfl
    rw [c2]
    by_cases z : k = nl
    · subst z
      have w0 : lnC c s k x y (liA s k) = x := by rw [ln_rd, if_neg (by omega), if_neg (by omega), if_pos rfl]
      have w1 : lnC c s k x y (liA s k + 1) = y := by rw [ln_rd, if_neg (by omega), if_pos rfl]
      have w2 : lnC c s k x y (liA s k + 2) = 1 := by rw [ln_rd, if_pos rfl]
      rw [w0, w1, w2]
      exact ⟨hx, hy, Or.inr rfl⟩
    · rw [ln_ne (by omega) hl, ln_ne (by omega) hl, ln_ne (by omega) hl]
      exact V.2.2.1 k (by omega)
  · have lk : coA s k = skA s + 480 + 66 * k := rfl
    rw [e _ (by omega)] at hk
    exact V.c5 n2 (by omega) hk (fun z h1 h2 => e z (by omega)) (by rw [e _ (by omega)]; exact (V.2.2.2.2 k hk).2.1)
/-- a mark goes out -/
theorem SkV.off {z0 : Nat} (V : SkV c s) (V' : SkC (upc c z0 0) s) (hz : (∃ k, k < 24 ∧ z0 = liA s k + 2) ∨ (∃ k, k < 6 ∧ z0 = diA s k + 1) ∨ ∃ k, k < 32 ∧ z0 = coA s k + 4) : SkV (upc c z0 0) s := by
  have v := V.1
  obtain ⟨v1, v2, v3, v4⟩ := id v
  have zr : (∃ k : Nat, k < 24 ∧ z0 = skA s + 28 + 3 * k + 2) ∨ (∃ k : Nat, k < 6 ∧ z0 = skA s + 101 + 63 * k + 1) ∨ ∃ k : Nat, k < 32 ∧ z0 = skA s + 480 + 66 * k + 4 := hz
  have zb : skA s + 30 ≤ z0 ∧ z0 ≠ skA s + 100 ∧ z0 ≠ skA s + 479 := by
    rcases zr with ⟨k, k1, k2⟩ | ⟨k, k1, k2⟩ | ⟨k, k1, k2⟩ <;> omega
  have c2 : upc c z0 0 (skA s + 2) = c (skA s + 2) := upc_ne (by omega)
  have c27 : upc c z0 0 (skA s + 27) = c (skA s + 27) := upc_ne (by omega)
  have bit : ∀ z, (c z = 0 ∨ c z = 1) → upc c z0 0 z = 0 ∨ upc c z0 0 z = 1 := fun z hb => by
    unfold upc
    split
    · exact Or.inl rfl
    · exact hb
  refine ⟨V', fun j hj => ?_, fun k hk => ?_, fun k hk => ?_, fun k hk => ?_⟩
  · rw [c2] at hj
    rw [upc_ne (by omega)]
    exact V.2.1 j hj
  · rw [c27] at hk
    have lk : liA s k = skA s + 28 + 3 * k := rfl
    obtain ⟨a, b, d⟩ := V.2.2.1 k hk
    have n0 : z0 ≠ liA s k ∧ z0 ≠ liA s k + 1 := by rcases zr with ⟨k', k1, k2⟩ | ⟨k', k1, k2⟩ | ⟨k', k1, k2⟩ <;> omega
    rw [c2, upc_ne (z := liA s k) (by omega), upc_ne (z := liA s k + 1) (by omega)]
    exact ⟨a, b, bit _ d⟩
  · rw [upc_ne (by omega)] at hk
    have lk : diA s k = skA s + 101 + 63 * k := rfl
    obtain ⟨a, d⟩ := V.2.2.2.1 k hk
    have n0 : z0 ≠ diA s k := by rcases zr with ⟨k', k1, k2⟩ | ⟨k', k1, k2⟩ | ⟨k', k1, k2⟩ <;> omega
    rw [c2, upc_ne (z := diA s k) (by omega)]
    exact ⟨a, bit _ d⟩
  · rw [upc_ne (by omega)] at hk
    have lk : coA s k = skA s + 480 + 66 * k := rfl
    refine V.c5 (by omega) (by omega) hk (fun z h1 h2 => upc_ne ?_) (bit _ (V.2.2.2.2 k hk).2.1)
    rcases zr with ⟨k', k1, k2⟩ | ⟨k', k1, k2⟩ | ⟨k', k1, k2⟩ <;> omega
end SKVE
