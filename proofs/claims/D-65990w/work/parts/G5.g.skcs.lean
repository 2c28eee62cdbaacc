/-! L3: the constraints of a sketch, as data -/
section SKCS
variable {c : Nat → Int} {B nv k p s w : Nat} {h : AH}
theorem eqL_lo {kd i a b e fa ta fb tb np j : Nat} (k24 : kd < 24) (ha : kd < 17 → a < np ∧ (2 ≤ kd → b < np) ∧ (11 ≤ kd → e < np)) (hl : 17 ≤ kd → fa < np ∧ ta < np ∧ fb < np ∧ tb < np) (hj : 2 * np ≤ j) : tmS (eqL kd i a b e fa ta fb tb) j = 0 := by
  unfold eqL
  by_cases i0 : i = 0
  · rw [if_pos i0]
    by_cases k17 : kd < 17
    · obtain ⟨a1, b1, c1⟩ := ha k17
      clear ha hl
      by_cases k2 : kd < 2
      · clear b1 c1
        rcases (by omega : kd = 0 ∨ kd = 1) with e | e <;> subst e <;> simp only [tmS] <;> (repeat rw [if_neg (by omega)]) <;> rfl
      · have b1 := b1 (by omega)
        by_cases k11 : kd < 11
        · clear c1
          rcases (by omega : kd = 2 ∨ kd = 3 ∨ kd = 4 ∨ kd = 5 ∨ kd = 6 ∨ kd = 7 ∨ kd = 8 ∨ kd = 9 ∨ kd = 10) with e | e | e | e | e | e | e | e | e <;> subst e <;> simp only [tmS] <;> (repeat rw [if_neg (by omega)]) <;> rfl
        · have c1 := c1 (by omega)
          rcases (by omega : kd = 11 ∨ kd = 12 ∨ kd = 13 ∨ kd = 14 ∨ kd = 15 ∨ kd = 16) with e | e | e | e | e | e <;> subst e <;> simp only [tmS] <;> (repeat rw [if_neg (by omega)]) <;> rfl
    · obtain ⟨a1, a2, a3, a4⟩ := hl (by omega)
      clear ha hl
      rcases (by omega : kd = 17 ∨ kd = 18 ∨ kd = 19 ∨ kd = 20 ∨ kd = 21 ∨ kd = 22 ∨ kd = 23) with e | e | e | e | e | e | e <;> subst e <;> simp only [tmS] <;> (repeat rw [if_neg (by omega)]) <;> rfl
  · rw [if_neg i0]
    by_cases k17 : kd < 17
    · obtain ⟨a1, b1, c1⟩ := ha k17
      clear ha hl
      by_cases k2 : kd < 2
      · clear b1 c1
        rcases (by omega : kd = 0 ∨ kd = 1) with e | e <;> subst e <;> simp only [tmS] <;> (repeat rw [if_neg (by omega)]) <;> rfl
      · have b1 := b1 (by omega)
        by_cases k11 : kd < 11
        · clear c1
          rcases (by omega : kd = 2 ∨ kd = 3 ∨ kd = 4 ∨ kd = 5 ∨ kd = 6 ∨ kd = 7 ∨ kd = 8 ∨ kd = 9 ∨ kd = 10) with e | e | e | e | e | e | e | e | e <;> subst e <;> simp only [tmS] <;> (repeat rw [if_neg (by omega)]) <;> rfl
        · have c1 := c1 (by omega)
          rcases (by omega : kd = 11 ∨ kd = 12 ∨ kd = 13 ∨ kd = 14 ∨ kd = 15 ∨ kd = 16) with e | e | e | e | e | e <;> subst e <;> simp only [tmS] <;> (repeat rw [if_neg (by omega)]) <;> rfl
    · obtain ⟨a1, a2, a3, a4⟩ := hl (by omega)
      clear ha hl
      rcases (by omega : kd = 17 ∨ kd = 18 ∨ kd = 19 ∨ kd = 20 ∨ kd = 21 ∨ kd = 22 ∨ kd = 23) with e | e | e | e | e | e | e <;> subst e <;> simp only [tmS] <;> (repeat rw [if_neg (by omega)]) <;> rfl
/-- the constraints -/
def csF (c : Nat → Int) (s k : Nat) : Cst := ((c (coA s k)).toNat, (c (coA s k + 1)).toNat, (c (coA s k + 2)).toNat, (c (coA s k + 3)).toNat, frF c s (c (coA s k + 1)).toNat, toF c s (c (coA s k + 1)).toNat, frF c s (c (coA s k + 2)).toNat, toF c s (c (coA s k + 2)).toNat)
def isF (c : Nat → Int) (s k : Nat) : Bool := decide (c (coA s k + 4) = 1)
theorem SkV.ends (V : SkV c s) (hk : (k : Int) < c (skA s + 27)) : c (liA s k) = ((frF c s k : Nat) : Int) ∧ c (liA s k + 1) = ((toF c s k : Nat) : Int) ∧ frF c s k < npF c s ∧ toF c s k < npF c s := by
  obtain ⟨n1, n2⟩ := V.1.np
  obtain ⟨a, b, -⟩ := V.2.2.1 k hk
  unfold frF toF
  omega
theorem SkV.csD (V : SkV c s) : CsD c s (nkF c s) (csF c s) (fun k => c (coA s k + 1)) (fun k => c (coA s k + 2)) (fun k => c (coA s k + 3)) (isF c s) := by
  obtain ⟨n1, n2⟩ := V.1.np
  obtain ⟨l1, l2⟩ := V.1.nl
  obtain ⟨k1, k2⟩ := V.1.nk
  refine ⟨k1, k2, fun k hk => ?_⟩
  obtain ⟨a, b, d1, d2⟩ := V.2.2.2.2 k (by omega)
  have kd : (csF c s k).1 = (c (coA s k)).toNat := rfl
  have ea : (csF c s k).2.1 = (c (coA s k + 1)).toNat := rfl
  have eb : (csF c s k).2.2.1 = (c (coA s k + 2)).toNat := rfl
  have ec : (csF c s k).2.2.2.1 = (c (coA s k + 3)).toNat := rfl
  refine ⟨by rw [kd]; omega, by rw [kd]; omega, rfl, rfl, rfl, b2i_01 b rfl, fun z => ?_, fun z => ?_⟩
  · rw [kd] at z ⊢
    obtain ⟨x1, x2, x3⟩ := d1 (by omega)
    refine ⟨⟨?_, ?_⟩, fun z2 => ⟨?_, ?_⟩, fun z2 => ⟨?_, ?_⟩⟩
    · show c (coA s k + 1) = _; rw [ea]; omega
    · rw [ea]; omega
    · have := x2 (by omega); show c (coA s k + 2) = _; rw [eb]; omega
    · have := x2 (by omega); rw [eb]; omega
    · have := x3 (by omega); show c (coA s k + 3) = _; rw [ec]; omega
    · have := x3 (by omega); rw [ec]; omega
  · rw [kd] at z
    obtain ⟨x1, x2⟩ := d2 (by omega)
    obtain ⟨p1, p2, p3, p4⟩ := V.ends (k := (c (coA s k + 1)).toNat) (by omega)
    obtain ⟨q1, q2, q3, q4⟩ := V.ends (k := (c (coA s k + 2)).toNat) (by omega)
    refine ⟨?_, ?_, ?_, ?_, Nat.lt_of_lt_of_le p3 n2, Nat.lt_of_lt_of_le p4 n2, Nat.lt_of_lt_of_le q3 n2, Nat.lt_of_lt_of_le q4 n2, p1, p2, q1, q2⟩
    · show c (coA s k + 1) = _; rw [ea]; omega
    · show c (coA s k + 2) = _; rw [eb]; omega
    · rw [ea]; omega
    · rw [eb]; omega
theorem SkV.loC (V : SkV c s) (hk : k < nkF c s) : LoC (2 * npF c s) (csF c s k) := by
  obtain ⟨n1, n2⟩ := V.1.np
  obtain ⟨k1, k2⟩ := V.1.nk
  obtain ⟨a, b, d1, d2⟩ := V.2.2.2.2 k (by omega)
  intro i _ j hj
  refine eqL_lo (np := npF c s) ?_ (fun z => ?_) (fun z => ?_) hj
  · show (c (coA s k)).toNat < 24; omega
  · have z' : (c (coA s k)).toNat < 17 := z
    obtain ⟨x1, x2, x3⟩ := d1 (by omega)
    refine ⟨?_, fun y => ?_, fun y => ?_⟩
    · show (c (coA s k + 1)).toNat < npF c s; omega
    · have y' : 2 ≤ (c (coA s k)).toNat := y
      have := x2 (by omega)
      show (c (coA s k + 2)).toNat < npF c s; omega
    · have y' : 11 ≤ (c (coA s k)).toNat := y
      have := x3 (by omega)
      show (c (coA s k + 3)).toNat < npF c s; omega
  · have z' : 17 ≤ (c (coA s k)).toNat := z
    obtain ⟨x1, x2⟩ := d2 (by omega)
    obtain ⟨p1, p2, p3, p4⟩ := V.ends (k := (c (coA s k + 1)).toNat) (by omega)
    obtain ⟨q1, q2, q3, q4⟩ := V.ends (k := (c (coA s k + 2)).toNat) (by omega)
    exact ⟨p3, p4, q3, q4⟩
/-- all that sketches of the desk need -/
theorem SkV.skD (V : SkV c s) : SkD c s (nkF c s) (npF c s) (csF c s) (fun k => c (coA s k + 1)) (fun k => c (coA s k + 2)) (fun k => c (coA s k + 3)) (isF c s) (dpF c s) := ⟨V.csD, V.drD, fun k hk _ => V.loC hk⟩
theorem SkR.csM (R : SkR B nv c s h w) (V : SkV c s) : CsM B h w (nkF c s) (csF c s) (fun k => c (coA s k + 1)) (fun k => c (coA s k + 2)) (fun k => c (coA s k + 3)) ∧ ∀ k, k < nkF c s → hv h (w + 12) k = b2i (isF c s k) := by
  obtain ⟨l1, l2⟩ := V.1.nl
  obtain ⟨C1, C2, C3⟩ := V.csD
  obtain ⟨-, ⟨-, -, -, -, -, r5⟩, -, R2, -, R4⟩ := R
  refine ⟨⟨by rw [r5]; exact C1, C2, fun k hk => ?_⟩, fun k hk => ?_⟩
  · obtain ⟨c1, c2, c3, c4, c5, c6, c7⟩ := C3 k hk
    obtain ⟨a1, a2, a3, a4, a5, -⟩ := R4 k (by omega)
    refine ⟨by rw [a1]; exact c1, c2, a2, a3, a4, c7.1, fun z => ?_⟩
    obtain ⟨x1, x2, x3, x4, x5, x6, x7, x8, y1, y2, y3, y4⟩ := c7.2 z
    obtain ⟨_, _, _, d2⟩ := V.2.2.2.2 k (by omega)
    have zk : 17 ≤ c (coA s k) := by
      have z' : 17 ≤ (csF c s k).1 := z
      omega
    obtain ⟨e1, e2⟩ := d2 zk
    obtain ⟨p1, p2, -⟩ := R2 (csF c s k).2.1 (by rw [← x1]; exact e1.2)
    obtain ⟨q1, q2, -⟩ := R2 (csF c s k).2.2.1 (by rw [← x2]; exact e2.2)
    exact ⟨x1, x2, x3, x4, x5, x6, x7, x8, by rw [p1]; exact y1, by rw [p2]; exact y2, by rw [q1]; exact y3, by rw [q2]; exact y4⟩
  · obtain ⟨c1, c2, c3, c4, c5, c6, c7⟩ := C3 k hk
    obtain ⟨a1, a2, a3, a4, a5, -⟩ := R4 k (by omega)
    rw [a5]; exact c6
end SKCS
