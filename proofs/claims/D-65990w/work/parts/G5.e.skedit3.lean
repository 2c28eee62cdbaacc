/-! L3: the edits of a sketch keep the relation: disc, constraint, a new sketch -/
section SKEDIT3
variable {c c' b u : Nat → Int} {B nv nc k m f q p e s w np nl nd nk : Nat} {h h' : AH} {x y v kd x3 x4 x5 : Int}
theorem dc_ne {z : Nat} (hm : m ≤ 240) (h1 : z ≠ skA s + 100) (h2 : z < diA s nd ∨ diA s nd + 63 ≤ z) : dcC c s nd x b m z = c z := by
  unfold dcC
  rw [txt_out hm (by omega), upc_ne (by omega), upc_ne (by omega), upc_ne h1]
/-- a disc more -/
theorem SkR.dc {X : Dn} {N : Nat → Bool} {P : Nat} (R : SkR B nv c s h w) (n40 : nv ≤ 40) (I : NmI c nv) (e2 : c (skA s + 100) = (nd : Int)) (d6 : nd < 6) (hm : m ≤ 240) (hb : ∀ i, i < m → -128 ≤ b i ∧ b i < 128) (hu : ∀ i, u i = b i % 256) (r : txW c nv nc b u m = .inr (X, N, P)) (A : AstI (B + 246) 240 h y X N) (yp : 0 < y) (ast : ∀ X0 X N, AstI (B + 246) 240 h X0 X N → AstI (B + 246) 240 (hset (hset (hset h (w + 6) nd x) (w + 7) nd y) w 4 ((nd : Int) + 1)) X0 X N) : SkR B nv (dcC c s nd x b m) s (hset (hset (hset h (w + 6) nd x) (w + 7) nd y) w 4 ((nd : Int) + 1)) w := by
  obtain ⟨v1, v2, v3, v4⟩ := id R.1
  obtain ⟨r0, r1, r2, r3, r4, r5⟩ := R.2.1
  have la : diA s nd = skA s + 101 + 63 * nd := rfl
  have H : HiE c (dcC c s nd x b m) := hi_dc
  have out : ∀ a j, (a ≠ w + 6 ∧ a ≠ w + 7 ∧ ¬ (a = w ∧ j = 4)) → hv (hset (hset (hset h (w + 6) nd x) (w + 7) nd y) w 4 ((nd : Int) + 1)) a j = hv h a j := fun a j hj => by
    rw [hv_set_ne (by omega), hv_set_ne (by omega), hv_set_ne (by omega)]
  have c2 : dcC c s nd x b m (skA s + 100) = (nd : Int) + 1 := by
    unfold dcC
    rw [txt_out hm (by omega), upc_ne (by omega), upc_ne (by omega), upc_at]; omega
  obtain ⟨⟨q0, q1, q2, q3⟩, L1, L2⟩ := R.lo (c' := dcC c s nd x b m) (fun z h1 h2 => dc_ne hm (by omega) (by omega)) (fun a j hj => out a j (by omega))
  refine ⟨?_, ⟨q0, q1, q2, q3, ?_, ?_⟩, L1, L2, fun j hj => ?_, R.c4 n40 I H (fun z h1 h2 => dc_ne hm (by omega) (by omega)) (fun a j hj => out a j (by omega)) ast⟩
  · unfold SkC
    rw [c2, dc_ne hm (by omega) (by omega), dc_ne hm (by omega) (by omega), dc_ne hm (by omega) (by omega)]
    exact ⟨v1, v2, ⟨by omega, by omega⟩, v4⟩
  · rw [hv_set_at, c2]
  · rw [out _ _ (by omega), dc_ne hm (by omega) (by omega)]; exact r5
  · rw [c2] at hj
    have lj : diA s j = skA s + 101 + 63 * j := rfl
    by_cases z : j = nd
    · subst z
      refine ⟨?_, Or.inr ⟨?_, ?_, ?_⟩⟩
      · rw [hv_set_ne (by omega), hv_set_ne (by omega), hv_set_at]
        unfold dcC
        rw [txt_out hm (by omega), upc_ne (by omega), upc_at]
      · unfold dcC
        rw [txt_out hm (by omega), upc_at]
      · rw [hv_set_ne (by omega), hv_set_at]; omega
      · rw [hv_set_ne (by omega), hv_set_at]
        exact FmX.put hm hb hu (H.nmk n40) I (H.nmi n40 I) (txt_at hb) r (ast _ _ _ A)
    · rw [hv_set_ne (by omega), hv_set_ne (by omega), hv_set_ne (by omega), hv_set_ne (by omega), hv_set_ne (by omega), hv_set_ne (by omega), dc_ne hm (by omega) (by omega), dc_ne hm (by omega) (by omega)]
      obtain ⟨a, b'⟩ := R.2.2.2.2.1 j (by omega)
      exact ⟨a, b'.imp id (fun z => ⟨z.1, z.2.1, z.2.2.keep (H.nmk n40) I (H.nmi n40 I) (fun z h1 h2 => dc_ne hm (by omega) (by omega)) ast⟩)⟩
/-- a constraint more -/
theorem SkR.cn (R : SkR B nv c s h w) (n40 : nv ≤ 40) (I : NmI c nv) (H : HiE c c') (k32 : nk < 32) (e2 : c (skA s + 479) = (nk : Int)) (hc : ∀ z, z ≠ skA s + 479 → (z < coA s nk ∨ coA s nk + 66 ≤ z) → c' z = c z) (h479 : c' (skA s + 479) = (nk : Int) + 1) (h0 : c' (coA s nk) = kd) (h1 : c' (coA s nk + 1) = x3) (h2 : c' (coA s nk + 2) = x4) (h3 : c' (coA s nk + 3) = x5) (h4 : c' (coA s nk + 4) = 1) (hT : kd < 6 → FmX B (coH h w nk kd x3 x4 x5 y) c' nv (coA s nk + 5) y) (ast : ∀ X0 X N, AstI (B + 246) 240 h X0 X N → AstI (B + 246) 240 (coH h w nk kd x3 x4 x5 y) X0 X N) : SkR B nv c' s (coH h w nk kd x3 x4 x5 y) w := by
  obtain ⟨v1, v2, v3, v4⟩ := id R.1
  obtain ⟨r0, r1, r2, r3, r4, r5⟩ := R.2.1
  have la : coA s nk = skA s + 480 + 66 * nk := rfl
  have out : ∀ a j, (a < w ∨ (a = w ∧ j ≠ 5) ∨ (w < a ∧ a < w + 8) ∨ w + 13 < a ∨ (w + 8 ≤ a ∧ j ≠ nk)) → hv (coH h w nk kd x3 x4 x5 y) a j = hv h a j := fun a j hj => by
    unfold coH
    rw [hv_set_ne (by omega), hv_set_ne (by omega), hv_set_ne (by omega), hv_set_ne (by omega), hv_set_ne (by omega), hv_set_ne (by omega), hv_set_ne (by omega)]
  obtain ⟨⟨q0, q1, q2, q3⟩, L1, L2⟩ := R.lo (c' := c') (h' := coH h w nk kd x3 x4 x5 y) (fun z h1 h2 => hc z (by omega) (by omega)) (fun a j hj => out a j (by omega))
  refine ⟨?_, ⟨q0, q1, q2, q3, ?_, ?_⟩, L1, L2, R.c3 n40 I H (fun z h1 h2 => hc z (by omega) (by omega)) (fun a j hj => out a j (by omega)) ast, fun j hj => ?_⟩
  · unfold SkC
    rw [h479, hc _ (by omega) (by omega), hc _ (by omega) (by omega), hc _ (by omega) (by omega)]
    exact ⟨v1, v2, v3, by omega, by omega⟩
  · rw [out _ _ (by omega), hc _ (by omega) (by omega)]; exact r4
  · rw [h479]; unfold coH; exact hv_set_at _ _ _ _
  · rw [h479] at hj
    have lj : coA s j = skA s + 480 + 66 * j := rfl
    by_cases z : j = nk
    · subst z
      rw [h0, h1, h2, h3, h4]
      have y13 : hv (coH h w j kd x3 x4 x5 y) (w + 13) j = y := by unfold coH; rw [hv_set_ne (by omega), hv_set_ne (by omega), hv_set_at]
      rw [y13]
      refine ⟨?_, ?_, ?_, ?_, ?_, hT⟩
      · unfold coH; rw [hv_set_ne (by omega), hv_set_ne (by omega), hv_set_ne (by omega), hv_set_ne (by omega), hv_set_ne (by omega), hv_set_ne (by omega), hv_set_at]
      · unfold coH; rw [hv_set_ne (by omega), hv_set_ne (by omega), hv_set_ne (by omega), hv_set_ne (by omega), hv_set_ne (by omega), hv_set_at]
      · unfold coH; rw [hv_set_ne (by omega), hv_set_ne (by omega), hv_set_ne (by omega), hv_set_ne (by omega), hv_set_at]
      · unfold coH; rw [hv_set_ne (by omega), hv_set_ne (by omega), hv_set_ne (by omega), hv_set_at]
      · unfold coH; rw [hv_set_ne (by omega), hv_set_at]
    · rw [out _ _ (by omega), out _ _ (by omega), out _ _ (by omega), out _ _ (by omega), out _ _ (by omega), out _ _ (by omega), hc _ (by omega) (by omega), hc _ (by omega) (by omega), hc _ (by omega) (by omega), hc _ (by omega) (by omega), hc _ (by omega) (by omega)]
      obtain ⟨a1, a2, a3, a4, a5, a6⟩ := R.2.2.2.2.2 j (by omega)
      exact ⟨a1, a2, a3, a4, a5, fun z => (a6 z).keep (H.nmk n40) I (H.nmi n40 I) (fun z h1 h2 => hc z (by omega) (by omega)) ast⟩
theorem cn_cells (hl : skA s + 479 < coA s nk) : (∀ z, z ≠ skA s + 479 → (z < coA s nk ∨ coA s nk + 5 ≤ z) → cnC c s nk kd x3 x4 x5 z = c z) ∧ cnC c s nk kd x3 x4 x5 (skA s + 479) = (nk : Int) + 1 ∧ cnC c s nk kd x3 x4 x5 (coA s nk) = kd ∧ cnC c s nk kd x3 x4 x5 (coA s nk + 1) = x3 ∧ cnC c s nk kd x3 x4 x5 (coA s nk + 2) = x4 ∧ cnC c s nk kd x3 x4 x5 (coA s nk + 3) = x5 ∧ cnC c s nk kd x3 x4 x5 (coA s nk + 4) = 1 := by
  unfold cnC
  refine ⟨fun z h1 h2 => ?_, ?_, ?_, ?_, ?_, ?_, ?_⟩
  · rw [upc_ne (by omega), upc_ne (by omega), upc_ne (by omega), upc_ne (by omega), upc_ne (by omega), upc_ne h1]
  · rw [upc_ne (by omega), upc_ne (by omega), upc_ne (by omega), upc_ne (by omega), upc_ne (by omega), upc_at]; omega
  · rw [upc_ne (by omega), upc_ne (by omega), upc_ne (by omega), upc_ne (by omega), upc_at]
  · rw [upc_ne (by omega), upc_ne (by omega), upc_ne (by omega), upc_at]
  · rw [upc_ne (by omega), upc_ne (by omega), upc_at]
  · rw [upc_ne (by omega), upc_at]
  · rw [upc_at]
/-- without a number -/
theorem SkR.cnN (R : SkR B nv c s h w) (n40 : nv ≤ 40) (I : NmI c nv) (k32 : nk < 32) (e2 : c (skA s + 479) = (nk : Int)) (hk : ¬ kd < 6) (ast : ∀ X0 X N, AstI (B + 246) 240 h X0 X N → AstI (B + 246) 240 (coH h w nk kd x3 x4 x5 y) X0 X N) : SkR B nv (cnC c s nk kd x3 x4 x5) s (coH h w nk kd x3 x4 x5 y) w := by
  have la : coA s nk = skA s + 480 + 66 * nk := rfl
  obtain ⟨c0, c1, c2, c3, c4, c5, c6⟩ := cn_cells (c := c) (s := s) (nk := nk) (kd := kd) (x3 := x3) (x4 := x4) (x5 := x5) (by omega)
  exact R.cn n40 I hi_cn k32 e2 (fun z h1 h2 => c0 z h1 (by omega)) c1 c2 c3 c4 c5 c6 (fun z => absurd z hk) ast
/-- with a number -/
theorem SkR.cnT {X : Dn} {N : Nat → Bool} {P : Nat} (R : SkR B nv c s h w) (n40 : nv ≤ 40) (I : NmI c nv) (k32 : nk < 32) (e2 : c (skA s + 479) = (nk : Int)) (hm : m ≤ 240) (hb : ∀ i, i < m → -128 ≤ b i ∧ b i < 128) (hu : ∀ i, u i = b i % 256) (r : txW c nv nc b u m = .inr (X, N, P)) (A : AstI (B + 246) 240 h y X N) (ast : ∀ X0 X N, AstI (B + 246) 240 h X0 X N → AstI (B + 246) 240 (coH h w nk kd x3 x4 x5 y) X0 X N) : SkR B nv (txt (cnC c s nk kd x3 x4 x5) (coA s nk + 5) b m) s (coH h w nk kd x3 x4 x5 y) w := by
  have la : coA s nk = skA s + 480 + 66 * nk := rfl
  have H : HiE c (txt (cnC c s nk kd x3 x4 x5) (coA s nk + 5) b m) := hi_cnt
  obtain ⟨c0, c1, c2, c3, c4, c5, c6⟩ := cn_cells (c := c) (s := s) (nk := nk) (kd := kd) (x3 := x3) (x4 := x4) (x5 := x5) (by omega)
  refine R.cn n40 I H k32 e2 (fun z h1 h2 => by rw [txt_out hm (by omega)]; exact c0 z h1 (by omega)) ?_ ?_ ?_ ?_ ?_ ?_ (fun _ => FmX.put hm hb hu (H.nmk n40) I (H.nmi n40 I) (txt_at hb) r (ast _ _ _ A)) ast
  · rw [txt_out hm (by omega)]; exact c1
  · rw [txt_out hm (by omega)]; exact c2
  · rw [txt_out hm (by omega)]; exact c3
  · rw [txt_out hm (by omega)]; exact c4
  · rw [txt_out hm (by omega)]; exact c5
  · rw [txt_out hm (by omega)]; exact c6
/-- a new sketch -/
theorem SkR.new (hq : q ≠ w) : SkR B nv (skC c s x y) s (hset (hset (hset (clSk h w) w 0 x) w 1 y) q 3 v) w := by
  have lo := skA_lo (s := s)
  have c0 : skC c s x y (skA s) = x := by unfold skC; rw [upc_ne (by omega), upc_ne (by omega), upc_ne (by omega), upc_ne (by omega), upc_ne (by omega), upc_at]
  have c1 : skC c s x y (skA s + 1) = y := by unfold skC; rw [upc_ne (by omega), upc_ne (by omega), upc_ne (by omega), upc_ne (by omega), upc_at]
  have c2 : skC c s x y (skA s + 2) = 0 := by unfold skC; rw [upc_ne (by omega), upc_ne (by omega), upc_ne (by omega), upc_at]
  have c3 : skC c s x y (skA s + 27) = 0 := by unfold skC; rw [upc_ne (by omega), upc_ne (by omega), upc_at]
  have c4 : skC c s x y (skA s + 100) = 0 := by unfold skC; rw [upc_ne (by omega), upc_at]
  have c5 : skC c s x y (skA s + 479) = 0 := by unfold skC; rw [upc_at]
  refine ⟨?_, ⟨?_, ?_, ?_, ?_, ?_, ?_⟩, fun p hp => ?_, fun p hp => ?_, fun p hp => ?_, fun p hp => ?_⟩
  · unfold SkC
    rw [c2, c3, c4, c5]
    decide
  · rw [c0, hv_set_ne (by omega), hv_set_ne (by omega), hv_set_at]
  · rw [c1, hv_set_ne (by omega), hv_set_at]
  · rw [c2, hv_set_ne (by omega), hv_set_ne (by omega), hv_set_ne (by omega)]; unfold clSk; rw [hv_set_ne (by omega), hv_set_ne (by omega), hv_set_ne (by omega), hv_set_at]
  · rw [c3, hv_set_ne (by omega), hv_set_ne (by omega), hv_set_ne (by omega)]; unfold clSk; rw [hv_set_ne (by omega), hv_set_ne (by omega), hv_set_at]
  · rw [c4, hv_set_ne (by omega), hv_set_ne (by omega), hv_set_ne (by omega)]; unfold clSk; rw [hv_set_ne (by omega), hv_set_at]
  · rw [c5, hv_set_ne (by omega), hv_set_ne (by omega), hv_set_ne (by omega)]; unfold clSk; rw [hv_set_at]
  · rw [c2] at hp; omega
  · rw [c3] at hp; omega
  · rw [c4] at hp; omega
  · rw [c5] at hp; omega
end SKEDIT3
