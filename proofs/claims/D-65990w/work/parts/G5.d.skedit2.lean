/-! L3: the edits of a sketch keep the relation: line, drops, disc, constraint -/
section SKEDIT2
variable {c c' b u : Nat → Int} {B nv nc k m f q p e s w np nl nd nk : Nat} {h h' : AH} {x y kd x3 x4 x5 : Int}
theorem ln_rd {z : Nat} : lnC c s nl x y z = if z = liA s nl + 2 then 1 else if z = liA s nl + 1 then y else if z = liA s nl then x else if z = skA s + 27 then ((nl + 1 : Nat) : Int) else c z := rfl
theorem ln_ne {z : Nat} (h1 : z < skA s + 27 ∨ (skA s + 27 < z ∧ z < liA s nl) ∨ liA s nl + 2 < z) (hl : skA s + 27 < liA s nl) : lnC c s nl x y z = c z := by
  rw [ln_rd, if_neg (by omega), if_neg (by omega), if_neg (by omega), if_neg (by omega)]
/-- a line more -/
theorem SkR.ln (R : SkR B nv c s h w) (n40 : nv ≤ 40) (I : NmI c nv) (e2 : c (skA s + 27) = (nl : Int)) (l24 : nl < 24) (ast : ∀ X0 X N, AstI (B + 246) 240 h X0 X N → AstI (B + 246) 240 (hset (hset (hset (hset h (w + 3) nl x) (w + 4) nl y) (w + 5) nl 1) w 3 ((nl : Int) + 1)) X0 X N) : SkR B nv (lnC c s nl x y) s (hset (hset (hset (hset h (w + 3) nl x) (w + 4) nl y) (w + 5) nl 1) w 3 ((nl : Int) + 1)) w := by
  obtain ⟨v1, v2, v3, v4⟩ := R.1
  obtain ⟨r0, r1, r2, r3, r4, r5⟩ := R.2.1
  have la : liA s nl = skA s + 28 + 3 * nl := rfl
  have hl : skA s + 27 < liA s nl := by omega
  have c2 : lnC c s nl x y (skA s + 27) = (nl : Int) + 1 := by rw [ln_rd, if_neg (by omega), if_neg (by omega), if_neg (by omega), if_pos rfl]; omega
  have out : ∀ a j, (a ≠ w + 3 ∧ a ≠ w + 4 ∧ a ≠ w + 5 ∧ ¬ (a = w ∧ j = 3)) → hv (hset (hset (hset (hset h (w + 3) nl x) (w + 4) nl y) (w + 5) nl 1) w 3 ((nl : Int) + 1)) a j = hv h a j := fun a j hj => by
    rw [hv_set_ne (by omega), hv_set_ne (by omega), hv_set_ne (by omega), hv_set_ne (by omega)]
  refine R.hi n40 I hi_ln ?_ ⟨?_, ?_, ?_, ?_, ?_, ?_⟩ (fun p hp => ?_) (fun k hk => ?_) (fun z h1 h2 => ln_ne (by omega) hl) (fun a j h1 h2 => out _ _ (by omega)) ast
  · unfold SkC
    rw [c2, ln_ne (by omega) hl, ln_ne (by omega) hl, ln_ne (by omega) hl]
    exact ⟨v1, ⟨by omega, by omega⟩, v3, v4⟩
  · rw [out _ _ (by omega), ln_ne (by omega) hl]; exact r0
  · rw [out _ _ (by omega), ln_ne (by omega) hl]; exact r1
  · rw [out _ _ (by omega), ln_ne (by omega) hl]; exact r2
  · rw [hv_set_at, c2]
  · rw [out _ _ (by omega), ln_ne (by omega) hl]; exact r4
  · rw [out _ _ (by omega), ln_ne (by omega) hl]; exact r5
  · rw [ln_ne (by omega) hl] at hp
    rw [out _ _ (by omega), out _ _ (by omega), ln_ne (by omega) hl, ln_ne (by omega) hl]
    exact R.2.2.1 p hp
  · rw [c2] at hk
    have lk : liA s k = skA s + 28 + 3 * k := rfl
    by_cases z : k = nl
    · subst z
      refine ⟨?_, ?_, ?_⟩
      · rw [hv_set_ne (by omega), hv_set_ne (by omega), hv_set_ne (by omega), hv_set_at, ln_rd, if_neg (by omega), if_neg (by omega), if_pos rfl]
      · rw [hv_set_ne (by omega), hv_set_ne (by omega), hv_set_at, ln_rd, if_neg (by omega), if_pos rfl]
      · rw [hv_set_ne (by omega), hv_set_at, ln_rd, if_pos rfl]
    · have o : ∀ i, 3 ≤ i → i ≤ 5 → hv (hset (hset (hset (hset h (w + 3) nl x) (w + 4) nl y) (w + 5) nl 1) w 3 ((nl : Int) + 1)) (w + i) k = hv h (w + i) k := fun i h1 h2 => by
        rw [hv_set_ne (by omega), hv_set_ne (by omega), hv_set_ne (by omega), hv_set_ne (by omega)]
      rw [o 3 (by decide) (by decide), o 4 (by decide) (by decide), o 5 (by decide) (by decide), ln_ne (by omega) hl, ln_ne (by omega) hl, ln_ne (by omega) hl]
      exact R.2.2.2.1 k (by omega)
theorem up_ne {z z0 : Nat} {v : Int} (h : z ≠ z0) : upc c z0 v z = c z := upc_ne h
/-- a line dropped -/
theorem SkR.dl (R : SkR B nv c s h w) (n40 : nv ≤ 40) (I : NmI c nv) (k24 : k < 24) (ast : ∀ X0 X N, AstI (B + 246) 240 h X0 X N → AstI (B + 246) 240 (hset h (w + 5) k 0) X0 X N) : SkR B nv (upc c (liA s k + 2) 0) s (hset h (w + 5) k 0) w := by
  obtain ⟨r0, r1, r2, r3, r4, r5⟩ := R.2.1
  have la : liA s k = skA s + 28 + 3 * k := rfl
  refine R.hi n40 I (HiE.rf.up (Or.inr (by have := liA_lo (s := s) (k := k); omega))) ?_ ⟨?_, ?_, ?_, ?_, ?_, ?_⟩ (fun p hp => ?_) (fun j hj => ?_) (fun z h1 h2 => up_ne (by omega)) (fun a j h1 h2 => hv_set_ne (by omega)) ast
  · unfold SkC
    rw [up_ne (by omega), up_ne (by omega), up_ne (by omega), up_ne (by omega)]
    exact R.1
  · rw [hv_set_ne (by omega), up_ne (by omega)]; exact r0
  · rw [hv_set_ne (by omega), up_ne (by omega)]; exact r1
  · rw [hv_set_ne (by omega), up_ne (by omega)]; exact r2
  · rw [hv_set_ne (by omega), up_ne (by omega)]; exact r3
  · rw [hv_set_ne (by omega), up_ne (by omega)]; exact r4
  · rw [hv_set_ne (by omega), up_ne (by omega)]; exact r5
  · have v1 := R.1.1
    rw [up_ne (by omega)] at hp
    rw [hv_set_ne (by omega), hv_set_ne (by omega), up_ne (by omega), up_ne (by omega)]
    exact R.2.2.1 p hp
  · rw [up_ne (by omega)] at hj
    have lj : liA s j = skA s + 28 + 3 * j := rfl
    obtain ⟨a1, a2, a3⟩ := R.2.2.2.1 j hj
    rw [hv_set_ne (by omega), hv_set_ne (by omega), up_ne (by omega), up_ne (by omega)]
    refine ⟨a1, a2, ?_⟩
    by_cases z : j = k
    · subst z
      rw [hv_set_at, upc_at]
    · rw [hv_set_ne (by omega), up_ne (by omega)]; exact a3
/-- points, lines untouched -/
theorem SkR.lo (R : SkR B nv c s h w) (e : ∀ z, skA s ≤ z → z < skA s + 100 → c' z = c z) (hh : ∀ a j, (a = w ∧ j < 4) ∨ (w + 1 ≤ a ∧ a ≤ w + 5) → hv h' a j = hv h a j) : (hv h' w 0 = c' (skA s) ∧ hv h' w 1 = c' (skA s + 1) ∧ hv h' w 2 = c' (skA s + 2) ∧ hv h' w 3 = c' (skA s + 27)) ∧ SkR1 c' s h' w ∧ SkR2 c' s h' w := by
  obtain ⟨v1, v2, v3, v4⟩ := R.1
  obtain ⟨r0, r1, r2, r3, r4, r5⟩ := R.2.1
  refine ⟨⟨?_, ?_, ?_, ?_⟩, fun p hp => ?_, fun k hk => ?_⟩
  · rw [hh _ _ (by omega), e _ (by omega) (by omega)]; exact r0
  · rw [hh _ _ (by omega), e _ (by omega) (by omega)]; exact r1
  · rw [hh _ _ (by omega), e _ (by omega) (by omega)]; exact r2
  · rw [hh _ _ (by omega), e _ (by omega) (by omega)]; exact r3
  · rw [e _ (by omega) (by omega)] at hp
    rw [hh _ _ (by omega), hh _ _ (by omega), e _ (by omega) (by omega), e _ (by omega) (by omega)]
    exact R.2.2.1 p hp
  · rw [e _ (by omega) (by omega)] at hk
    have lk : liA s k = skA s + 28 + 3 * k := rfl
    rw [hh _ _ (by omega), hh _ _ (by omega), hh _ _ (by omega), e _ (by omega) (by omega), e _ (by omega) (by omega), e _ (by omega) (by omega)]
    exact R.2.2.2.1 k hk
/-- constraints untouched -/
theorem SkR.c4 (R : SkR B nv c s h w) (n40 : nv ≤ 40) (I : NmI c nv) (H : HiE c c') (e : ∀ z, skA s + 479 ≤ z → z < skA s + 2592 → c' z = c z) (hh : ∀ a j, w + 8 ≤ a ∧ a ≤ w + 13 → hv h' a j = hv h a j) (ast : ∀ x X N, AstI (B + 246) 240 h x X N → AstI (B + 246) 240 h' x X N) : SkR4 B nv c' s h' w := fun k hk => by
  obtain ⟨v1, v2, v3, v4⟩ := R.1
  rw [e _ (by omega) (by omega)] at hk
  have lb : coA s k = skA s + 480 + 66 * k := rfl
  rw [hh _ _ (by omega), hh _ _ (by omega), hh _ _ (by omega), hh _ _ (by omega), hh _ _ (by omega), hh _ _ (by omega), e _ (by omega) (by omega), e _ (by omega) (by omega), e _ (by omega) (by omega), e _ (by omega) (by omega), e _ (by omega) (by omega)]
  obtain ⟨a1, a2, a3, a4, a5, a6⟩ := R.2.2.2.2.2 k hk
  exact ⟨a1, a2, a3, a4, a5, fun z => (a6 z).keep (H.nmk n40) I (H.nmi n40 I) (fun z h1 h2 => e z (by omega) (by omega)) ast⟩
/-- discs untouched -/
theorem SkR.c3 (R : SkR B nv c s h w) (n40 : nv ≤ 40) (I : NmI c nv) (H : HiE c c') (e : ∀ z, skA s + 100 ≤ z → z < skA s + 479 → c' z = c z) (hh : ∀ a j, w + 6 ≤ a ∧ a ≤ w + 7 → hv h' a j = hv h a j) (ast : ∀ x X N, AstI (B + 246) 240 h x X N → AstI (B + 246) 240 h' x X N) : SkR3 B nv c' s h' w := fun k hk => by
  obtain ⟨v1, v2, v3, v4⟩ := R.1
  rw [e _ (by omega) (by omega)] at hk
  have lb : diA s k = skA s + 101 + 63 * k := rfl
  rw [hh _ _ (by omega), hh _ _ (by omega), e _ (by omega) (by omega), e _ (by omega) (by omega)]
  obtain ⟨a, b⟩ := R.2.2.2.2.1 k hk
  exact ⟨a, b.imp id (fun z => ⟨z.1, z.2.1, z.2.2.keep (H.nmk n40) I (H.nmi n40 I) (fun z h1 h2 => e z (by omega) (by omega)) ast⟩)⟩
/-- a disc dropped -/
theorem SkR.dd (R : SkR B nv c s h w) (n40 : nv ≤ 40) (I : NmI c nv) (k6 : k < 6) (ast : ∀ X0 X N, AstI (B + 246) 240 h X0 X N → AstI (B + 246) 240 (hset h (w + 7) k 0) X0 X N) : SkR B nv (upc c (diA s k + 1) 0) s (hset h (w + 7) k 0) w := by
  obtain ⟨v1, v2, v3, v4⟩ := id R.1
  have la : diA s k = skA s + 101 + 63 * k := rfl
  have H : HiE c (upc c (diA s k + 1) 0) := HiE.rf.up (Or.inr (by have := diA_lo (s := s) (k := k); omega))
  obtain ⟨⟨q0, q1, q2, q3⟩, L1, L2⟩ := R.lo (c' := upc c (diA s k + 1) 0) (h' := hset h (w + 7) k 0) (fun z h1 h2 => up_ne (by omega)) (fun a j hj => hv_set_ne (by omega))
  obtain ⟨r0, r1, r2, r3, r4, r5⟩ := R.2.1
  refine ⟨?_, ⟨q0, q1, q2, q3, ?_, ?_⟩, L1, L2, fun j hj => ?_, R.c4 n40 I H (fun z h1 h2 => up_ne (by omega)) (fun a j hj => hv_set_ne (by omega)) ast⟩
  · unfold SkC
    rw [up_ne (by omega), up_ne (by omega), up_ne (by omega), up_ne (by omega)]
    exact R.1
  · rw [hv_set_ne (by omega), up_ne (by omega)]; exact r4
  · rw [hv_set_ne (by omega), up_ne (by omega)]; exact r5
  · rw [up_ne (by omega)] at hj
    have lj : diA s j = skA s + 101 + 63 * j := rfl
    obtain ⟨a, b⟩ := R.2.2.2.2.1 j hj
    rw [hv_set_ne (by omega), up_ne (by omega)]
    refine ⟨a, ?_⟩
    by_cases z : j = k
    · subst z
      exact Or.inl ⟨upc_at, hv_set_at _ _ _ _⟩
    · rw [hv_set_ne (by omega), up_ne (by omega)]
      exact b.imp id (fun z => ⟨z.1, z.2.1, z.2.2.keep (H.nmk n40) I (H.nmi n40 I) (fun z h1 h2 => up_ne (by omega)) ast⟩)
/-- a constraint dropped -/
theorem SkR.dk (R : SkR B nv c s h w) (n40 : nv ≤ 40) (I : NmI c nv) (k32 : k < 32) (ast : ∀ X0 X N, AstI (B + 246) 240 h X0 X N → AstI (B + 246) 240 (hset h (w + 12) k 0) X0 X N) : SkR B nv (upc c (coA s k + 4) 0) s (hset h (w + 12) k 0) w := by
  obtain ⟨v1, v2, v3, v4⟩ := id R.1
  have la : coA s k = skA s + 480 + 66 * k := rfl
  have H : HiE c (upc c (coA s k + 4) 0) := HiE.rf.up (Or.inr (by have := coA_lo (s := s) (k := k); omega))
  obtain ⟨⟨q0, q1, q2, q3⟩, L1, L2⟩ := R.lo (c' := upc c (coA s k + 4) 0) (h' := hset h (w + 12) k 0) (fun z h1 h2 => up_ne (by omega)) (fun a j hj => hv_set_ne (by omega))
  obtain ⟨r0, r1, r2, r3, r4, r5⟩ := R.2.1
  refine ⟨?_, ⟨q0, q1, q2, q3, ?_, ?_⟩, L1, L2, R.c3 n40 I H (fun z h1 h2 => up_ne (by omega)) (fun a j hj => hv_set_ne (by omega)) ast, fun j hj => ?_⟩
  · unfold SkC
    rw [up_ne (by omega), up_ne (by omega), up_ne (by omega), up_ne (by omega)]
    exact R.1
  · rw [hv_set_ne (by omega), up_ne (by omega)]; exact r4
  · rw [hv_set_ne (by omega), up_ne (by omega)]; exact r5
  · rw [up_ne (by omega)] at hj
    have lj : coA s j = skA s + 480 + 66 * j := rfl
    obtain ⟨a1, a2, a3, a4, a5, a6⟩ := R.2.2.2.2.2 j hj
    rw [hv_set_ne (by omega), hv_set_ne (by omega), hv_set_ne (by omega), hv_set_ne (by omega), hv_set_ne (a := w + 12) (b := w + 13) (by omega), up_ne (by omega), up_ne (by omega), up_ne (by omega), up_ne (by omega)]
    refine ⟨a1, a2, a3, a4, ?_, fun z => (a6 z).keep (H.nmk n40) I (H.nmi n40 I) (fun z h1 h2 => up_ne (by omega)) ast⟩
    by_cases z : j = k
    · subst z
      rw [hv_set_at, upc_at]
    · rw [hv_set_ne (by omega), up_ne (by omega)]; exact a5
end SKEDIT2
