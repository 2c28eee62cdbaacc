/-! L3: a sketch of the desk stands for one of the model -/
section SKREL
variable {c c' b u : Nat → Int} {B nv nc k m f q p e s w w2 : Nat} {h h' : AH} {x y : Int}
/-- a text and its formula -/
def FmX (B : Nat) (h : AH) (c : Nat → Int) (nv f : Nat) (x : Int) : Prop := TX c f ∧ FmT B h c nv f x
theorem FmX.ast (F : FmX B h c nv f x) (ast : ∀ x X N, AstI (B + 246) 240 h x X N → AstI (B + 246) 240 h' x X N) : FmX B h' c nv f x :=
  ⟨F.1, F.2.imp id (fun ⟨a, X, N, P, r1, r2, r3, r4⟩ => ⟨a, X, N, P, r1, ast _ X N r2, r3, r4⟩)⟩
theorem FmX.keep (F : FmX B h c nv f x) (K : NmK c c' nv) (I : NmI c nv) (I' : NmI c' nv) (same : ∀ z, f ≤ z → z < f + 61 → c' z = c z) (ast : ∀ x X N, AstI (B + 246) 240 h x X N → AstI (B + 246) 240 h' x X N) : FmX B h' c' nv f x :=
  ⟨F.1.of same, F.2.keep (fun _ => F.1) K I I' same (fun X N a => ast _ X N a)⟩
theorem FmX.put {X : Dn} {N : Nat → Bool} {P : Nat} (hm : m ≤ 240) (hb : ∀ i, i < m → -128 ≤ b i ∧ b i < 128) (hu : ∀ i, u i = b i % 256) (K : NmK c c' nv) (I : NmI c nv) (I' : NmI c' nv) (T : TxAt c' f b m) (r : txW c nv nc b u m = .inr (X, N, P)) (A : AstI (B + 246) 240 h' x X N) : FmX B h' c' nv f x :=
  ⟨⟨m, b, T, hm⟩, FmT.put hm hb hu K I I' T r A⟩
def SkR0 (c : Nat → Int) (s : Nat) (h : AH) (w : Nat) : Prop := hv h w 0 = c (skA s) ∧ hv h w 1 = c (skA s + 1) ∧ hv h w 2 = c (skA s + 2) ∧ hv h w 3 = c (skA s + 27) ∧ hv h w 4 = c (skA s + 100) ∧ hv h w 5 = c (skA s + 479)
def SkR1 (c : Nat → Int) (s : Nat) (h : AH) (w : Nat) : Prop := ∀ p : Nat, (p : Int) < c (skA s + 2) → hv h (w + 1) p = c (skA s + 3 + 2 * p) ∧ hv h (w + 2) p = c (skA s + 4 + 2 * p)
def SkR2 (c : Nat → Int) (s : Nat) (h : AH) (w : Nat) : Prop := ∀ k : Nat, (k : Int) < c (skA s + 27) → hv h (w + 3) k = c (liA s k) ∧ hv h (w + 4) k = c (liA s k + 1) ∧ hv h (w + 5) k = c (liA s k + 2)
def SkR3 (B nv : Nat) (c : Nat → Int) (s : Nat) (h : AH) (w : Nat) : Prop := ∀ k : Nat, (k : Int) < c (skA s + 100) → hv h (w + 6) k = c (diA s k) ∧ ((c (diA s k + 1) = 0 ∧ hv h (w + 7) k = 0) ∨ (c (diA s k + 1) = 1 ∧ hv h (w + 7) k ≠ 0 ∧ FmX B h c nv (diA s k + 2) (hv h (w + 7) k)))
def SkR4 (B nv : Nat) (c : Nat → Int) (s : Nat) (h : AH) (w : Nat) : Prop := ∀ k : Nat, (k : Int) < c (skA s + 479) → hv h (w + 8) k = c (coA s k) ∧ hv h (w + 9) k = c (coA s k + 1) ∧ hv h (w + 10) k = c (coA s k + 2) ∧ hv h (w + 11) k = c (coA s k + 3) ∧ hv h (w + 12) k = c (coA s k + 4) ∧ (c (coA s k) < 6 → FmX B h c nv (coA s k + 5) (hv h (w + 13) k))
/-- a sketch's counts are within their rooms -/
def SkC (c : Nat → Int) (s : Nat) : Prop := (0 ≤ c (skA s + 2) ∧ c (skA s + 2) ≤ 12) ∧ (0 ≤ c (skA s + 27) ∧ c (skA s + 27) ≤ 24) ∧ (0 ≤ c (skA s + 100) ∧ c (skA s + 100) ≤ 6) ∧ 0 ≤ c (skA s + 479) ∧ c (skA s + 479) ≤ 32
def SkR (B nv : Nat) (c : Nat → Int) (s : Nat) (h : AH) (w : Nat) : Prop := SkC c s ∧ SkR0 c s h w ∧ SkR1 c s h w ∧ SkR2 c s h w ∧ SkR3 B nv c s h w ∧ SkR4 B nv c s h w
/-- copied -/
theorem SkR.cp {w3 : Nat} (R : SkR B nv c s h w) (E : SkEq h w h' w3) (ast : ∀ x X N, AstI (B + 246) 240 h x X N → AstI (B + 246) 240 h' x X N) : SkR B nv c s h' w3 := by
  obtain ⟨V, R0, R1, R2, R3, R4⟩ := R
  obtain ⟨E1, E2⟩ := E
  obtain ⟨v1, v2, v3, v4⟩ := id V
  obtain ⟨r0, r1, r2, r3, r4, r5⟩ := R0
  refine ⟨V, ⟨by rw [E1 0 (by decide)]; exact r0, by rw [E1 1 (by decide)]; exact r1, by rw [E1 2 (by decide)]; exact r2, by rw [E1 3 (by decide)]; exact r3, by rw [E1 4 (by decide)]; exact r4, by rw [E1 5 (by decide)]; exact r5⟩, fun p hp => ?_, fun k hk => ?_, fun k hk => ?_, fun k hk => ?_⟩
  · rw [E2 1 p (by decide) (by decide) (show p < 12 by omega), E2 2 p (by decide) (by decide) (show p < 12 by omega)]; exact R1 p hp
  · rw [E2 3 k (by decide) (by decide) (show k < 24 by omega), E2 4 k (by decide) (by decide) (show k < 24 by omega), E2 5 k (by decide) (by decide) (show k < 24 by omega)]; exact R2 k hk
  · rw [E2 6 k (by decide) (by decide) (show k < 6 by omega), E2 7 k (by decide) (by decide) (show k < 6 by omega)]
    obtain ⟨a, b⟩ := R3 k hk
    exact ⟨a, b.imp id (fun z => ⟨z.1, z.2.1, z.2.2.ast ast⟩)⟩
  · rw [E2 8 k (by decide) (by decide) (show k < 32 by omega), E2 9 k (by decide) (by decide) (show k < 32 by omega), E2 10 k (by decide) (by decide) (show k < 32 by omega), E2 11 k (by decide) (by decide) (show k < 32 by omega), E2 12 k (by decide) (by decide) (show k < 32 by omega), E2 13 k (by decide) (by decide) (show k < 32 by omega)]
    obtain ⟨a1, a2, a3, a4, a5, a6⟩ := R4 k hk
    exact ⟨a1, a2, a3, a4, a5, fun z => (a6 z).ast ast⟩
/-- another sketch was edited -/
theorem SkR.oth (R : SkR B nv c s h w) (n40 : nv ≤ 40) (I : NmI c nv) (H : HiE c c') (e : ∀ z, skA s ≤ z → z < skA s + 2592 → c' z = c z) (hh : ∀ a j, w ≤ a → a ≤ w + 13 → (a = w → j < 6) → hv h' a j = hv h a j) (ast : ∀ x X N, AstI (B + 246) 240 h x X N → AstI (B + 246) 240 h' x X N) : SkR B nv c' s h' w := by
  obtain ⟨V, R0, R1, R2, R3, R4⟩ := R
  obtain ⟨v1, v2, v3, v4⟩ := id V
  obtain ⟨r0, r1, r2, r3, r4, r5⟩ := R0
  have K := H.nmk n40
  have I' := H.nmi n40 I
  refine ⟨?_, ⟨?_, ?_, ?_, ?_, ?_, ?_⟩, fun p hp => ?_, fun k hk => ?_, fun k hk => ?_, fun k hk => ?_⟩
  · unfold SkC
    rw [e _ (by omega) (by omega), e _ (by omega) (by omega), e _ (by omega) (by omega), e _ (by omega) (by omega)]
    exact V
  · rw [hh _ _ (by omega) (by omega) (by omega), e _ (by omega) (by omega)]; exact r0
  · rw [hh _ _ (by omega) (by omega) (by omega), e _ (by omega) (by omega)]; exact r1
  · rw [hh _ _ (by omega) (by omega) (by omega), e _ (by omega) (by omega)]; exact r2
  · rw [hh _ _ (by omega) (by omega) (by omega), e _ (by omega) (by omega)]; exact r3
  · rw [hh _ _ (by omega) (by omega) (by omega), e _ (by omega) (by omega)]; exact r4
  · rw [hh _ _ (by omega) (by omega) (by omega), e _ (by omega) (by omega)]; exact r5
  · rw [e _ (by omega) (by omega)] at hp
    rw [hh _ _ (by omega) (by omega) (by omega), hh _ _ (by omega) (by omega) (by omega), e _ (by omega) (by omega), e _ (by omega) (by omega)]
    exact R1 p hp
  · rw [e _ (by omega) (by omega)] at hk
    have lb : skA s ≤ liA s k ∧ liA s k + 2 < skA s + 2592 := by unfold liA; omega
    rw [hh _ _ (by omega) (by omega) (by omega), hh _ _ (by omega) (by omega) (by omega), hh _ _ (by omega) (by omega) (by omega), e _ (by omega) (by omega), e _ (by omega) (by omega), e _ (by omega) (by omega)]
    exact R2 k hk
  · rw [e _ (by omega) (by omega)] at hk
    have lb : skA s ≤ diA s k ∧ diA s k + 63 ≤ skA s + 2592 := by unfold diA; omega
    rw [hh _ _ (by omega) (by omega) (by omega), hh _ _ (by omega) (by omega) (by omega), e _ (by omega) (by omega), e _ (by omega) (by omega)]
    obtain ⟨a, b⟩ := R3 k hk
    exact ⟨a, b.imp id (fun z => ⟨z.1, z.2.1, z.2.2.keep K I I' (fun z h1 h2 => e z (by omega) (by omega)) ast⟩)⟩
  · rw [e _ (by omega) (by omega)] at hk
    have lb : skA s ≤ coA s k ∧ coA s k + 66 ≤ skA s + 2592 := by unfold coA; omega
    rw [hh _ _ (by omega) (by omega) (by omega), hh _ _ (by omega) (by omega) (by omega), hh _ _ (by omega) (by omega) (by omega), hh _ _ (by omega) (by omega) (by omega), hh _ _ (by omega) (by omega) (by omega), hh _ _ (by omega) (by omega) (by omega), e _ (by omega) (by omega), e _ (by omega) (by omega), e _ (by omega) (by omega), e _ (by omega) (by omega), e _ (by omega) (by omega)]
    obtain ⟨a1, a2, a3, a4, a5, a6⟩ := R4 k hk
    exact ⟨a1, a2, a3, a4, a5, fun z => (a6 z).keep K I I' (fun z h1 h2 => e z (by omega) (by omega)) ast⟩
end SKREL
