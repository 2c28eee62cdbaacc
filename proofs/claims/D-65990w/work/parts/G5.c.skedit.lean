/-! L3: the edits of a sketch keep the relation: point, drag, line, a line dropped -/
section SKEDIT
variable {c c' b u : Nat → Int} {B nv nc k m f q p e s w np nl : Nat} {h h' : AH} {x y : Int}
theorem SkR.hi (R : SkR B nv c s h w) (n40 : nv ≤ 40) (I : NmI c nv) (H : HiE c c') (V' : SkC c' s) (r0 : SkR0 c' s h' w) (r1 : SkR1 c' s h' w) (r2 : SkR2 c' s h' w) (e : ∀ z, skA s + 100 ≤ z → z < skA s + 2592 → c' z = c z) (hh : ∀ a j, w + 6 ≤ a → a ≤ w + 13 → hv h' a j = hv h a j) (ast : ∀ x X N, AstI (B + 246) 240 h x X N → AstI (B + 246) 240 h' x X N) : SkR B nv c' s h' w := by
  obtain ⟨V, R0, R1, R2, R3, R4⟩ := R
  obtain ⟨v1, v2, v3, v4⟩ := id V
  have K := H.nmk n40
  have I' := H.nmi n40 I
  refine ⟨V', r0, r1, r2, fun k hk => ?_, fun k hk => ?_⟩
  · rw [e _ (by omega) (by omega)] at hk
    have lb : skA s + 101 ≤ diA s k ∧ diA s k + 63 ≤ skA s + 2592 := by unfold diA; omega
    rw [hh _ _ (by omega) (by omega), hh _ _ (by omega) (by omega), e _ (by omega) (by omega), e _ (by omega) (by omega)]
    obtain ⟨a, b⟩ := R3 k hk
    exact ⟨a, b.imp id (fun z => ⟨z.1, z.2.1, z.2.2.keep K I I' (fun z h1 h2 => e z (by omega) (by omega)) ast⟩)⟩
  · rw [e _ (by omega) (by omega)] at hk
    have lb : skA s + 480 ≤ coA s k ∧ coA s k + 66 ≤ skA s + 2592 := by unfold coA; omega
    rw [hh _ _ (by omega) (by omega), hh _ _ (by omega) (by omega), hh _ _ (by omega) (by omega), hh _ _ (by omega) (by omega), hh _ _ (by omega) (by omega), hh _ _ (by omega) (by omega), e _ (by omega) (by omega), e _ (by omega) (by omega), e _ (by omega) (by omega), e _ (by omega) (by omega), e _ (by omega) (by omega)]
    obtain ⟨a1, a2, a3, a4, a5, a6⟩ := R4 k hk
    exact ⟨a1, a2, a3, a4, a5, fun z => (a6 z).keep K I I' (fun z h1 h2 => e z (by omega) (by omega)) ast⟩
theorem pt_rd {z : Nat} : ptC c s np x y z = if z = skA s + 4 + 2 * np then y else if z = skA s + 3 + 2 * np then x else if z = skA s + 2 then ((np + 1 : Nat) : Int) else c z := by
  unfold ptC upc
  rw [show skA s + 2 + 2 + 2 * np = skA s + 4 + 2 * np by omega, show skA s + 2 + 1 + 2 * np = skA s + 3 + 2 * np by omega]
theorem pt_ne {z : Nat} (h1 : z ≠ skA s + 4 + 2 * np) (h2 : z ≠ skA s + 3 + 2 * np) (h3 : z ≠ skA s + 2) : ptC c s np x y z = c z := by
  rw [pt_rd, if_neg h1, if_neg h2, if_neg h3]
/-- a point more -/
theorem SkR.pt (R : SkR B nv c s h w) (n40 : nv ≤ 40) (I : NmI c nv) (e2 : c (skA s + 2) = (np : Int)) (p12 : np < 12) (ast : ∀ X0 X N, AstI (B + 246) 240 h X0 X N → AstI (B + 246) 240 (hset (hset (hset h (w + 1) np x) (w + 2) np y) w 2 ((np : Int) + 1)) X0 X N) : SkR B nv (ptC c s np x y) s (hset (hset (hset h (w + 1) np x) (w + 2) np y) w 2 ((np : Int) + 1)) w := by
  obtain ⟨v1, v2, v3, v4⟩ := R.1
  obtain ⟨r0, r1, r2, r3, r4, r5⟩ := R.2.1
  have c2 : ptC c s np x y (skA s + 2) = (np : Int) + 1 := by rw [pt_rd, if_neg (by omega), if_neg (by omega), if_pos rfl]; omega
  refine R.hi n40 I hi_pt ?_ ⟨?_, ?_, ?_, ?_, ?_, ?_⟩ (fun p hp => ?_) (fun k hk => ?_) (fun z h1 h2 => pt_ne (by omega) (by omega) (by omega)) (fun a j h1 h2 => by rw [hv_set_ne (by omega), hv_set_ne (by omega), hv_set_ne (by omega)]) ast
  · unfold SkC
    rw [c2, pt_ne (by omega) (by omega) (by omega), pt_ne (by omega) (by omega) (by omega), pt_ne (by omega) (by omega) (by omega)]
    exact ⟨⟨by omega, by omega⟩, v2, v3, v4⟩
  · rw [hv_set_ne (by omega), hv_set_ne (by omega), hv_set_ne (by omega), pt_ne (by omega) (by omega) (by omega)]; exact r0
  · rw [hv_set_ne (by omega), hv_set_ne (by omega), hv_set_ne (by omega), pt_ne (by omega) (by omega) (by omega)]; exact r1
  · rw [hv_set_at, c2]
  · rw [hv_set_ne (by omega), hv_set_ne (by omega), hv_set_ne (by omega), pt_ne (by omega) (by omega) (by omega)]; exact r3
  · rw [hv_set_ne (by omega), hv_set_ne (by omega), hv_set_ne (by omega), pt_ne (by omega) (by omega) (by omega)]; exact r4
  · rw [hv_set_ne (by omega), hv_set_ne (by omega), hv_set_ne (by omega), pt_ne (by omega) (by omega) (by omega)]; exact r5
  · rw [c2] at hp
    by_cases z : p = np
    · subst z
      refine ⟨?_, ?_⟩
      · rw [hv_set_ne (by omega), hv_set_ne (by omega), hv_set_at, pt_rd, if_neg (by omega), if_pos rfl]
      · rw [hv_set_ne (by omega), hv_set_at, pt_rd, if_pos rfl]
    · rw [hv_set_ne (by omega), hv_set_ne (by omega), hv_set_ne (by omega), hv_set_ne (by omega), hv_set_ne (by omega), hv_set_ne (by omega), pt_ne (by omega) (by omega) (by omega), pt_ne (by omega) (by omega) (by omega)]
      exact R.2.2.1 p (by omega)
  · rw [pt_ne (by omega) (by omega) (by omega)] at hk
    have lb : skA s + 28 ≤ liA s k := by unfold liA; omega
    rw [hv_set_ne (by omega), hv_set_ne (by omega), hv_set_ne (by omega), hv_set_ne (by omega), hv_set_ne (by omega), hv_set_ne (by omega), hv_set_ne (by omega), hv_set_ne (by omega), hv_set_ne (by omega), pt_ne (by omega) (by omega) (by omega), pt_ne (by omega) (by omega) (by omega), pt_ne (by omega) (by omega) (by omega)]
    exact R.2.2.2.1 k hk
theorem dg_rd {z : Nat} : dgC c s p x y z = if z = skA s + 4 + 2 * p then y else if z = skA s + 3 + 2 * p then x else c z := by
  unfold dgC upc
  rw [show skA s + 2 + 2 + 2 * p = skA s + 4 + 2 * p by omega, show skA s + 2 + 1 + 2 * p = skA s + 3 + 2 * p by omega]
theorem dg_ne {z : Nat} (h1 : z ≠ skA s + 4 + 2 * p) (h2 : z ≠ skA s + 3 + 2 * p) : dgC c s p x y z = c z := by
  rw [dg_rd, if_neg h1, if_neg h2]
/-- a point dragged -/
theorem SkR.dg (R : SkR B nv c s h w) (n40 : nv ≤ 40) (I : NmI c nv) (p12 : p < 12) (ast : ∀ X0 X N, AstI (B + 246) 240 h X0 X N → AstI (B + 246) 240 (hset (hset h (w + 1) p x) (w + 2) p y) X0 X N) : SkR B nv (dgC c s p x y) s (hset (hset h (w + 1) p x) (w + 2) p y) w := by
  obtain ⟨v1, v2, v3, v4⟩ := R.1
  obtain ⟨r0, r1, r2, r3, r4, r5⟩ := R.2.1
  refine R.hi n40 I hi_dg ?_ ⟨?_, ?_, ?_, ?_, ?_, ?_⟩ (fun j hj => ?_) (fun k hk => ?_) (fun z h1 h2 => dg_ne (by omega) (by omega)) (fun a j h1 h2 => by rw [hv_set_ne (by omega), hv_set_ne (by omega)]) ast
  · unfold SkC
    rw [dg_ne (by omega) (by omega), dg_ne (by omega) (by omega), dg_ne (by omega) (by omega), dg_ne (by omega) (by omega)]
    exact ⟨v1, v2, v3, v4⟩
  · rw [hv_set_ne (by omega), hv_set_ne (by omega), dg_ne (by omega) (by omega)]; exact r0
  · rw [hv_set_ne (by omega), hv_set_ne (by omega), dg_ne (by omega) (by omega)]; exact r1
  · rw [hv_set_ne (by omega), hv_set_ne (by omega), dg_ne (by omega) (by omega)]; exact r2
  · rw [hv_set_ne (by omega), hv_set_ne (by omega), dg_ne (by omega) (by omega)]; exact r3
  · rw [hv_set_ne (by omega), hv_set_ne (by omega), dg_ne (by omega) (by omega)]; exact r4
  · rw [hv_set_ne (by omega), hv_set_ne (by omega), dg_ne (by omega) (by omega)]; exact r5
  · rw [dg_ne (by omega) (by omega)] at hj
    by_cases z : j = p
    · subst z
      refine ⟨?_, ?_⟩
      · rw [hv_set_ne (by omega), hv_set_at, dg_rd, if_neg (by omega), if_pos rfl]
      · rw [hv_set_at, dg_rd, if_pos rfl]
    · rw [hv_set_ne (by omega), hv_set_ne (by omega), hv_set_ne (by omega), hv_set_ne (by omega), dg_ne (by omega) (by omega), dg_ne (by omega) (by omega)]
      exact R.2.2.1 j hj
  · rw [dg_ne (by omega) (by omega)] at hk
    have lb : skA s + 28 ≤ liA s k := by unfold liA; omega
    rw [hv_set_ne (by omega), hv_set_ne (by omega), hv_set_ne (by omega), hv_set_ne (by omega), hv_set_ne (by omega), hv_set_ne (by omega), dg_ne (by omega) (by omega), dg_ne (by omega) (by omega), dg_ne (by omega) (by omega)]
    exact R.2.2.2.1 k hk
end SKEDIT
