/-! L3: the edits of a sketch keep its cells sound: disc, constraint, a new sketch -/
section SKVE2
variable {c c' b : Nat → Int} {k p s np nl nd nk m : Nat} {x y kd x3 x4 x5 : Int}
theorem SkV.dc (V : SkV c s) (V' : SkC (dcC c s nd x b m) s) (e2 : c (skA s + 100) = (nd : Int)) (d6 : nd < 6) (hm : m ≤ 240) (hx : 0 ≤ x ∧ x < c (skA s + 2)) : SkV (dcC c s nd x b m) s := by
  have la : diA s nd = skA s + 101 + 63 * nd := rfl
  have v := V.1
  have c2 : dcC c s nd x b m (skA s + 2) = c (skA s + 2) := dc_ne hm (by omega) (by omega)
  have c27 : dcC c s nd x b m (skA s + 27) = c (skA s + 27) := dc_ne hm (by omega) (by omega)
  have c100 : dcC c s nd x b m (skA s + 100) = (nd : Int) + 1 := by
    unfold dcC
    rw [txt_out hm (by omega), upc_ne (by omega), upc_ne (by omega), upc_at]; omega
  have n2 : c (skA s + 2) ≤ dcC c s nd x b m (skA s + 2) := by omega
  have v1 := v.1
  have v2 := v.2.1
  refine ⟨V', fun j hj => ?_, V.l3 n2 c27 (fun z h1 h2 => dc_ne hm (by omega) (by omega)), fun k hk => ?_, fun k hk => ?_⟩
  · rw [c2] at hj
    rw [dc_ne hm (by omega) (by omega)]
    exact V.2.1 j hj
  · rw [c100] at hk
    have lk : diA s k = skA s + 101 + 63 * k := rfl
    rw [c2]
    by_cases z : k = nd
    · subst z
      have w0 : dcC c s k x b m (diA s k) = x := by
        unfold dcC
        rw [txt_out hm (by omega), upc_ne (by omega), upc_at]
      have w1 : dcC c s k x b m (diA s k + 1) = 1 := by
        unfold dcC
        rw [txt_out hm (by omega), upc_at]
      rw [w0, w1]
      exact ⟨hx, Or.inr rfl⟩
    · rw [dc_ne hm (by omega) (by omega), dc_ne hm (by omega) (by omega)]
      exact V.2.2.2.1 k (by omega)
  · have lk : coA s k = skA s + 480 + 66 * k := rfl
    rw [dc_ne hm (by omega) (by omega)] at hk
    exact V.c5 n2 (by omega) hk (fun z h1 h2 => dc_ne hm (by omega) (by omega)) (by rw [dc_ne hm (by omega) (by omega)]; exact (V.2.2.2.2 k hk).2.1)
theorem SkV.cn (V : SkV c s) (V' : SkC c' s) (k32 : nk < 32) (e2 : c (skA s + 479) = (nk : Int)) (hc : ∀ z, z ≠ skA s + 479 → (z < coA s nk ∨ coA s nk + 66 ≤ z) → c' z = c z) (h479 : c' (skA s + 479) = (nk : Int) + 1) (h0 : c' (coA s nk) = kd) (h1 : c' (coA s nk + 1) = x3) (h2 : c' (coA s nk + 2) = x4) (h3 : c' (coA s nk + 3) = x5) (h4 : c' (coA s nk + 4) = 1) (hk : 0 ≤ kd ∧ kd < 24) (a1 : kd < 17 → (0 ≤ x3 ∧ x3 < c (skA s + 2)) ∧ (2 ≤ kd → 0 ≤ x4 ∧ x4 < c (skA s + 2)) ∧ (11 ≤ kd → 0 ≤ x5 ∧ x5 < c (skA s + 2))) (a2 : 17 ≤ kd → (0 ≤ x3 ∧ x3 < c (skA s + 27)) ∧ 0 ≤ x4 ∧ x4 < c (skA s + 27)) : SkV c' s := by
  have la : coA s nk = skA s + 480 + 66 * nk := rfl
  have v := V.1
  have v1 := v.1
  have c2 : c' (skA s + 2) = c (skA s + 2) := hc _ (by omega) (by omega)
  have c27 : c' (skA s + 27) = c (skA s + 27) := hc _ (by omega) (by omega)
  have n2 : c (skA s + 2) ≤ c' (skA s + 2) := by omega
  refine ⟨V', fun j hj => ?_, V.l3 n2 c27 (fun z h1 h2 => hc z (by omega) (by omega)), V.d4 n2 (hc _ (by omega) (by omega)) (fun z h1 h2 => hc z (by omega) (by omega)), fun k hk' => ?_⟩
  · rw [c2] at hj
    rw [hc _ (by omega) (by omega)]
    exact V.2.1 j hj
  · rw [h479] at hk'
    have lk : coA s k = skA s + 480 + 66 * k := rfl
    by_cases z : k = nk
    · subst z
      rw [h0, h1, h2, h3, h4, c2, c27]
      exact ⟨hk, Or.inr rfl, a1, a2⟩
    · exact V.c5 n2 (by omega) (by omega) (fun z h1 h2 => hc z (by omega) (by omega)) (by rw [hc _ (by omega) (by omega)]; exact (V.2.2.2.2 k (by omega)).2.1)
theorem SkV.new (V' : SkC (skC c s x y) s) : SkV (skC c s x y) s := by
  have c2 : skC c s x y (skA s + 2) = 0 := by unfold skC; rw [upc_ne (by omega), upc_ne (by omega), upc_ne (by omega), upc_at]
  have c3 : skC c s x y (skA s + 27) = 0 := by unfold skC; rw [upc_ne (by omega), upc_ne (by omega), upc_at]
  have c4 : skC c s x y (skA s + 100) = 0 := by unfold skC; rw [upc_ne (by omega), upc_at]
  have c5 : skC c s x y (skA s + 479) = 0 := by unfold skC; rw [upc_at]
  refine ⟨V', fun j hj => ?_, fun k hk => ?_, fun k hk => ?_, fun k hk => ?_⟩
  · rw [c2] at hj; omega
  · rw [c3] at hk; omega
  · rw [c4] at hk; omega
  · rw [c5] at hk; omega
/-- another sketch was edited -/
theorem SkV.oth (V : SkV c s) (e : ∀ z, skA s ≤ z → z < skA s + 2592 → c' z = c z) : SkV c' s := by
  obtain ⟨v1, v2, v3, v4⟩ := id V.1
  have c2 : c' (skA s + 2) = c (skA s + 2) := e _ (by omega) (by omega)
  have n2 : c (skA s + 2) ≤ c' (skA s + 2) := by omega
  have c27 : c' (skA s + 27) = c (skA s + 27) := e _ (by omega) (by omega)
  refine ⟨?_, fun j hj => ?_, V.l3 n2 c27 (fun z h1 h2 => e z (by omega) (by omega)), V.d4 n2 (e _ (by omega) (by omega)) (fun z h1 h2 => e z (by omega) (by omega)), fun k hk => ?_⟩
  · unfold SkC
    rw [c2, c27, e _ (by omega) (by omega), e _ (by omega) (by omega)]
    exact V.1
  · rw [c2] at hj
    rw [e _ (by omega) (by omega)]
    exact V.2.1 j hj
  · have lk : coA s k = skA s + 480 + 66 * k := rfl
    rw [e _ (by omega) (by omega)] at hk
    exact V.c5 n2 (by omega) hk (fun z h1 h2 => e z (by omega) (by omega)) (by rw [e _ (by omega) (by omega)]; exact (V.2.2.2.2 k hk).2.1)
end SKVE2
