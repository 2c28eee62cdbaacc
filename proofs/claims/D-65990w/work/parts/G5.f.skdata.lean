/-! L3: what a sketch of the desk holds, as data: points, lines, discs -/
section SKDATA
variable {c : Nat → Int} {B nv k p s w : Nat} {h : AH}
def npF (c : Nat → Int) (s : Nat) : Nat := (c (skA s + 2)).toNat
def nlF (c : Nat → Int) (s : Nat) : Nat := (c (skA s + 27)).toNat
def ndcF (c : Nat → Int) (s : Nat) : Nat := (c (skA s + 100)).toNat
def nkF (c : Nat → Int) (s : Nat) : Nat := (c (skA s + 479)).toNat
def lvF (c : Nat → Int) (s k : Nat) : Bool := decide (k < nlF c s) && decide (c (liA s k + 2) = 1)
def frF (c : Nat → Int) (s k : Nat) : Nat := (c (liA s k)).toNat
def toF (c : Nat → Int) (s k : Nat) : Nat := (c (liA s k + 1)).toNat
def dlF (c : Nat → Int) (s k : Nat) : Bool := decide (c (diA s k + 1) = 1)
def dcF (c : Nat → Int) (s k : Nat) : Nat := (c (diA s k)).toNat
def dpF (c : Nat → Int) (s j : Nat) : Int := if j < 2 * npF c s then c (skA s + 3 + j) else 0
/-- the cells of a sketch are sound -/
def SkV (c : Nat → Int) (s : Nat) : Prop := SkC c s ∧ (∀ j : Nat, (j : Int) < 2 * c (skA s + 2) → -200 ≤ c (skA s + 3 + j) ∧ c (skA s + 3 + j) ≤ 200) ∧ (∀ k : Nat, (k : Int) < c (skA s + 27) → (0 ≤ c (liA s k) ∧ c (liA s k) < c (skA s + 2)) ∧ (0 ≤ c (liA s k + 1) ∧ c (liA s k + 1) < c (skA s + 2)) ∧ (c (liA s k + 2) = 0 ∨ c (liA s k + 2) = 1)) ∧ (∀ k : Nat, (k : Int) < c (skA s + 100) → (0 ≤ c (diA s k) ∧ c (diA s k) < c (skA s + 2)) ∧ (c (diA s k + 1) = 0 ∨ c (diA s k + 1) = 1)) ∧ ∀ k : Nat, (k : Int) < c (skA s + 479) → (0 ≤ c (coA s k) ∧ c (coA s k) < 24) ∧ (c (coA s k + 4) = 0 ∨ c (coA s k + 4) = 1) ∧ (c (coA s k) < 17 → (0 ≤ c (coA s k + 1) ∧ c (coA s k + 1) < c (skA s + 2)) ∧ (2 ≤ c (coA s k) → 0 ≤ c (coA s k + 2) ∧ c (coA s k + 2) < c (skA s + 2)) ∧ (11 ≤ c (coA s k) → 0 ≤ c (coA s k + 3) ∧ c (coA s k + 3) < c (skA s + 2))) ∧ (17 ≤ c (coA s k) → (0 ≤ c (coA s k + 1) ∧ c (coA s k + 1) < c (skA s + 27)) ∧ 0 ≤ c (coA s k + 2) ∧ c (coA s k + 2) < c (skA s + 27))
theorem SkC.np (V : SkC c s) : c (skA s + 2) = ((npF c s : Nat) : Int) ∧ npF c s ≤ 12 := by
  obtain ⟨v1, -, -, -⟩ := V
  unfold npF; omega
theorem SkC.nl (V : SkC c s) : c (skA s + 27) = ((nlF c s : Nat) : Int) ∧ nlF c s ≤ 24 := by
  obtain ⟨-, v1, -, -⟩ := V
  unfold nlF; omega
theorem SkC.nd (V : SkC c s) : c (skA s + 100) = ((ndcF c s : Nat) : Int) ∧ ndcF c s ≤ 6 := by
  obtain ⟨-, -, v1, -⟩ := V
  unfold ndcF; omega
theorem SkC.nk (V : SkC c s) : c (skA s + 479) = ((nkF c s : Nat) : Int) ∧ nkF c s ≤ 32 := by
  obtain ⟨-, -, -, v1⟩ := V
  unfold nkF; omega
theorem b2i_01 {x : Int} {p : Bool} (h : x = 0 ∨ x = 1) (e : p = decide (x = 1)) : x = b2i p := by
  rw [e]
  rcases h with h | h <;> rw [h] <;> rfl
theorem lvF_at (hk : k < nlF c s) : lvF c s k = decide (c (liA s k + 2) = 1) := by
  unfold lvF
  rw [decide_eq_true hk, Bool.true_and]
theorem SkV.lnD (V : SkV c s) : LnD c s (npF c s) (nlF c s) (lvF c s) (frF c s) (toF c s) := by
  obtain ⟨V0, -, V2, -, -⟩ := V
  obtain ⟨n1, n2⟩ := V0.np
  obtain ⟨l1, l2⟩ := V0.nl
  refine ⟨⟨l1, l2, fun k hk => ?_⟩, fun k hk => ?_⟩
  · unfold lvF
    rw [decide_eq_false (by omega), Bool.false_and]
  · obtain ⟨a, b, d⟩ := V2 k (by omega)
    refine ⟨?_, ?_, b2i_01 d (lvF_at hk), fun _ => ⟨?_, ?_⟩⟩
    · unfold frF; omega
    · unfold toF; omega
    · unfold frF; omega
    · unfold toF; omega
theorem SkR.linM (R : SkR B nv c s h w) (V : SkV c s) : LinM h w (npF c s) (nlF c s) (lvF c s) (frF c s) (toF c s) := by
  obtain ⟨⟨L1, L2, L3⟩, L4⟩ := V.lnD
  obtain ⟨-, ⟨-, -, -, r3, -, -⟩, -, R2, -, -⟩ := R
  refine ⟨⟨by rw [r3]; exact L1, L2, L3⟩, fun k hk => ?_⟩
  obtain ⟨a1, a2, a3⟩ := R2 k (by omega)
  obtain ⟨b1, b2, b3, b4⟩ := L4 k hk
  exact ⟨by rw [a1]; exact b1, by rw [a2]; exact b2, by rw [a3]; exact b3, b4⟩
theorem SkV.dcD (V : SkV c s) : DcD c s (npF c s) (ndcF c s) (dlF c s) (dcF c s) := by
  obtain ⟨V0, -, -, V3, -⟩ := V
  obtain ⟨n1, n2⟩ := V0.np
  obtain ⟨l1, l2⟩ := V0.nd
  refine ⟨⟨l1, l2⟩, fun k hk => ?_⟩
  obtain ⟨a, d⟩ := V3 k (by omega)
  refine ⟨?_, b2i_01 d rfl, fun _ => ?_⟩
  · unfold dcF; omega
  · unfold dcF; omega
theorem SkR.dcM (R : SkR B nv c s h w) (V : SkV c s) : DcM h w (npF c s) (ndcF c s) (dlF c s) (dcF c s) := by
  obtain ⟨⟨L1, L2⟩, L3⟩ := V.dcD
  obtain ⟨-, ⟨-, -, -, -, r4, -⟩, -, -, R3, -⟩ := R
  refine ⟨⟨by rw [r4]; exact L1, L2⟩, fun k hk => ?_⟩
  obtain ⟨a1, a2⟩ := R3 k (by omega)
  obtain ⟨b1, b2, b3⟩ := L3 k hk
  refine ⟨by rw [a1]; exact b1, ?_, b3⟩
  unfold dlF
  rcases a2 with ⟨e1, e2⟩ | ⟨e1, e2, -⟩
  · rw [e1, e2]; exact ⟨fun _ => rfl, fun _ => rfl⟩
  · rw [e1]; exact ⟨fun z => absurd z e2, fun z => by cases z⟩
theorem SkV.drD (V : SkV c s) : DrD c s (npF c s) (dpF c s) := by
  obtain ⟨V0, V1, -, -, -⟩ := V
  obtain ⟨n1, n2⟩ := V0.np
  refine ⟨n1, n2, fun j hj => ?_, fun j => ?_⟩
  · unfold dpF; rw [if_pos hj]
  · unfold dpF
    by_cases z : j < 2 * npF c s
    · rw [if_pos z]; exact V1 j (by omega)
    · rw [if_neg z]; decide
theorem SkR.drM (R : SkR B nv c s h w) (V : SkV c s) : DrM h w (npF c s) (dpF c s) := by
  obtain ⟨D1, D2, D3, D4⟩ := V.drD
  obtain ⟨-, ⟨-, -, r2, -, -, -⟩, R1, -, -, -⟩ := R
  refine ⟨by rw [r2]; exact D1, D2, fun p hp => ?_, D4, fun j hj => ?_⟩
  · obtain ⟨a1, a2⟩ := R1 p (by omega)
    rw [a1, a2, ← D3 (2 * p) (by omega), ← D3 (2 * p + 1) (by omega)]
    exact ⟨rfl, by rw [show skA s + 3 + (2 * p + 1) = skA s + 4 + 2 * p by omega]⟩
  · unfold dpF; rw [if_neg (by omega)]
end SKDATA
