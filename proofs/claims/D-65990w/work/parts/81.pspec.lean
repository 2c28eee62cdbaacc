/-! L3: formulas: fractions stay good; what a text comes to -/
theorem fTim_ok {a b c e kd : Int} (hb : b ≠ 0) (he : e ≠ 0) : FOK (fTim a b c e kd) := by
  unfold fTim
  split
  · exact FOK.flt (f := 1) (by decide) (by decide)
  · next h => exact FOK.mk (Int.mul_ne_zero hb he) (by omega) (by omega)
theorem FOK.f4 {x : Fq} (ok : FOK x) (h : x.2.2.2 ≠ 0) : 1 ≤ x.2.2.2 ∧ x.2.2.2 ≤ 4 := by
  rcases ok with ⟨e, _⟩ | ⟨f, e, h1, h2⟩
  · exact absurd e h
  · rw [e]; exact ⟨h1, h2⟩
theorem bd2_ok {al : Bool} {x y : Fq} (ox : FOK x) (oy : FOK y) (h : bd2 al x y ≠ 0) : FOK (flt (bd2 al x y)) := by
  unfold bd2 at h ⊢
  by_cases h1 : x.2.2.2 = 0
  · rw [if_neg (fun w => w h1)] at h ⊢
    by_cases h2 : y.2.2.2 = 0
    · rw [if_neg (fun w => w h2)] at h ⊢
      split
      · exact FOK.flt (f := 1) (by decide) (by decide)
      · next k => rw [if_neg k] at h; exact absurd rfl h
    · rw [if_pos h2]; exact FOK.flt (oy.f4 h2).1 (oy.f4 h2).2
  · rw [if_pos h1]; exact FOK.flt (ox.f4 h1).1 (ox.f4 h1).2
theorem fTwo_ok {op : Int} {x y : Fq} (ox : FOK x) (oy : FOK y) : FOK (fTwo op x y) := by
  unfold fTwo
  split
  · next h => exact bd2_ok ox oy h
  · next h =>
    have h : bd2 (alk op) x y = 0 := by
      by_cases e : bd2 (alk op) x y = 0
      · exact e
      · exact absurd e h
    obtain ⟨x0, y0, _⟩ := bd2_0 h
    obtain ⟨xa, xb, xk, xg⟩ := ox.b x0
    obtain ⟨ya, yb, yk, yg⟩ := oy.b y0
    have nz : x.2.1 * y.2.1 ≠ 0 := Int.mul_ne_zero (by omega) (by omega)
    split
    · exact fTim_ok (by omega) (by omega)
    split
    · exact FOK.mk nz xk.1 xk.2
    split
    · exact FOK.mk nz xk.1 xk.2
    split
    · split
      · exact FOK.flt (f := 1) (by decide) (by decide)
      split
      · exact FOK.flt (f := 2) (by decide) (by decide)
      · next k1 k2 => exact FOK.mk (Int.mul_ne_zero (by omega) k2) (by omega) (by omega)
    split
    · split
      · exact FOK.flt (f := 1) (by decide) (by decide)
      · exact FOK.mk (by decide) (by decide) (by decide)
    · exact FOK.mk (by decide) (by decide) (by decide)
theorem fNeg_ok {x : Fq} (ox : FOK x) : FOK (fNeg x) := by
  rcases ox with ⟨h0, h1, h2, h3, h4, h5, h6, h7⟩ | ⟨f, e, h1, h2⟩
  · exact Or.inl ⟨h0, by show _ ≤ -x.1; omega, by show -x.1 ≤ _; omega, h3, h4, h5, h6, by show Int.gcd (-x.1) x.2.1 = 1; rw [Int.neg_gcd]; exact h7⟩
  · refine Or.inr ⟨f, ?_, h1, h2⟩
    rw [e]; rfl
theorem fNot_ok {x : Fq} (ox : FOK x) : FOK (fNot x) := by
  unfold fNot
  split
  · next h => exact FOK.flt (ox.f4 h).1 (ox.f4 h).2
  split
  · exact FOK.flt (f := 1) (by decide) (by decide)
  · exact FOK.mk (by decide) (by decide) (by decide)
theorem k0_ok {x : Fq} (ox : FOK x) (h : x.2.2.2 = 0) : FOK (k0 x) := by
  have : k0 x = x := by unfold k0; rw [← h]
  rw [this]; exact ox
theorem fPair_ok {f : Nat} {x y : Fq} (ox : FOK x) (oy : FOK y) : FOK (fPair f x y) := by
  unfold fPair
  split
  · next h => exact bd2_ok ox oy h
  · next h =>
    have h : bd2 true x y = 0 := by
      by_cases e : bd2 true x y = 0
      · exact e
      · exact absurd e h
    obtain ⟨x0, y0, _⟩ := bd2_0 h
    obtain ⟨xa, xb, xk, xg⟩ := ox.b x0
    obtain ⟨ya, yb, yk, yg⟩ := oy.b y0
    split
    · split
      · exact k0_ok ox x0
      · exact k0_ok oy y0
    split
    · exact FOK.flt (f := 2) (by decide) (by decide)
    split
    · exact FOK.mk (by decide) (by decide) (by decide)
    · unfold fRest
      exact FOK.mk (Int.mul_ne_zero (by omega) (by omega)) xk.1 xk.2
theorem fThree_ok {x y z : Fq} (ox : FOK x) (oy : FOK y) (oz : FOK z) : FOK (fThree x y z) := by
  unfold fThree
  split
  · next h =>
    unfold bd3 at h ⊢
    by_cases h1 : x.2.2.2 = 0
    · rw [if_neg (fun w => w h1)] at h ⊢
      by_cases h2 : y.2.2.2 = 0
      · rw [if_neg (fun w => w h2)] at h ⊢
        by_cases h3 : z.2.2.2 = 0
        · rw [if_neg (fun w => w h3)] at h ⊢
          split
          · exact FOK.flt (f := 1) (by decide) (by decide)
          · next k =>
            rw [if_neg k] at h
            split
            · exact FOK.flt (f := 1) (by decide) (by decide)
            · next k2 => rw [if_neg k2] at h; exact absurd rfl h
        · rw [if_pos h3]; exact FOK.flt (oz.f4 h3).1 (oz.f4 h3).2
      · rw [if_pos h2]; exact FOK.flt (oy.f4 h2).1 (oy.f4 h2).2
    · rw [if_pos h1]; exact FOK.flt (ox.f4 h1).1 (ox.f4 h1).2
  · next h =>
    have h : bd3 x y z = 0 := by
      by_cases e : bd3 x y z = 0
      · exact e
      · exact absurd e h
    obtain ⟨x0, y0, z0⟩ := bd3_0 h
    have a1 := k0_ok ox x0
    have a2 := k0_ok oy y0
    have a3 := k0_ok oz z0
    repeat' split
    all_goals assumption
theorem fAlone_ok {f : Nat} {x : Fq} (ox : FOK x) : FOK (fAlone f x) := by
  unfold fAlone
  split
  · next h => exact FOK.flt (ox.f4 h).1 (ox.f4 h).2
  · next h =>
    have h : x.2.2.2 = 0 := by
      by_cases e : x.2.2.2 = 0
      · exact e
      · exact absurd e h
    obtain ⟨xa, xb, xk, xg⟩ := ox.b h
    split
    · exact Or.inl ⟨rfl, by show _ ≤ (x.1.natAbs : Int); omega, by show (x.1.natAbs : Int) ≤ _; omega, xb.1, xb.2, xk.1, xk.2, by show Int.gcd (x.1.natAbs : Int) x.2.1 = 1; rw [← xg]; unfold Int.gcd; rw [Int.natAbs_natCast]⟩
    split
    · exact FOK.mk (by decide) xk.1 xk.2
    split
    · exact FOK.mk (by decide) xk.1 xk.2
    split
    · exact FOK.mk (by decide) xk.1 xk.2
    split
    · exact FOK.mk (by decide) (by decide) (by decide)
    · exact fTim_ok (by omega) (by omega)
def fBad (c : Fq) : Int := if c.2.2.2 ≠ 0 then c.2.2.2 else if c.2.2.1 ≠ 0 then 1 else 0
def fIf (c y n : Fq) : Fq := if fBad c ≠ 0 then flt (fBad c) else if c.1 ≠ 0 then y else n
theorem fIf_ok {c y n : Fq} (oc : FOK c) (oy : FOK y) (on : FOK n) : FOK (fIf c y n) := by
  unfold fIf
  split
  · unfold fBad
    split
    · next h => exact FOK.flt (oc.f4 h).1 (oc.f4 h).2
    split
    · exact FOK.flt (f := 1) (by decide) (by decide)
    · next h1 h2 h3 => exfalso; apply h1; unfold fBad; rw [if_neg h2, if_neg h3]
  split
  · exact oy
  · exact on
/-- what a text comes to, of what VALUES come to; the names in it; where the next sign stands. Or the place that is wrong -/
abbrev Dn : Type := (Nat → Fq) → Fq
abbrev PR : Type := Nat ⊕ (Dn × (Nat → Bool) × Nat)
def isSg (u : Nat → Int) (m p : Nat) (s : Int) : Bool := decide (tkK u m p = 3) && decide (tkS u m p = s)
def orN (a b : Nat → Bool) : Nat → Bool := fun v => a v || b v
/-- a number with its unit behind it: the sign at p is the number -/
noncomputable def numD (u : Nat → Int) (m p : Nat) : Fq × Nat :=
  itP (isWd u m (tkT u m p) [109, 109]) (mkF (nAb u m (tkF u m p)) (nBe u m (tkF u m p)) 1, tkT u m (tkT u m p))
    (itP (isWd u m (tkT u m p) [99, 109]) (mkF (nAb u m (tkF u m p) * 10) (nBe u m (tkF u m p)) 1, tkT u m (tkT u m p))
      (itP (isWd u m (tkT u m p) [105, 110]) (mkF (nAb u m (tkF u m p) * 127) (nBe u m (tkF u m p) * 5) 1, tkT u m (tkT u m p))
        (mkF (nAb u m (tkF u m p)) (nBe u m (tkF u m p)) 0, tkT u m p)))
/-- md 0 a formula, 1 a level (at least lst), 2 what goes on behind acc, 3 an operand; dp how many are open -/
noncomputable def pS (u : Nat → Int) (m : Nat) (fd : Nat → Int) (bk : Nat → Bool) : Nat → Nat → Int → Nat → Nat → Dn × (Nat → Bool) → Option PR
  | 0, _, _, _, _, _ => none
  | g + 1, md, lst, dp, p, acc =>
    if md = 0 then (match pS u m fd bk g 1 0 dp p acc with
      | none => none
      | some (.inl e) => some (.inl e)
      | some (.inr (D, N, p1)) => if isSg u m p1 63 then (if 24 ≤ dp then some (.inl (tkF u m (tkT u m p1))) else match pS u m fd bk g 0 0 (dp + 1) (tkT u m p1) acc with
        | none => none
        | some (.inl e) => some (.inl e)
        | some (.inr (Y, N2, p3)) => if isSg u m p3 58 then (match pS u m fd bk g 0 0 (dp + 1) (tkT u m p3) acc with
          | none => none
          | some (.inl e) => some (.inl e)
          | some (.inr (Z, N3, p5)) => some (.inr (fun e => fIf (D e) (Y e) (Z e), orN N (orN N2 N3), p5))) else some (.inl (tkF u m p3))) else some (.inr (D, N, p1)))
    else if md = 1 then (match pS u m fd bk g 3 0 dp p acc with
      | none => none
      | some (.inl e) => some (.inl e)
      | some (.inr (D, N, p1)) => pS u m fd bk g 2 lst dp p1 (D, N))
    else if md = 2 then (if lst ≤ levF u m p then (match pS u m fd bk g 1 (levF u m p + 1) dp (tkT u m p) acc with
      | none => none
      | some (.inl e) => some (.inl e)
      | some (.inr (D, N, p1)) => pS u m fd bk g 2 lst dp p1 (fun e => fTwo (tkS u m p) (acc.1 e) (D e), orN acc.2 N)) else some (.inr (acc.1, acc.2, p)))
    else if isSg u m p 45 || isSg u m p 33 then (if 24 ≤ dp then some (.inl (tkF u m (tkT u m p))) else match pS u m fd bk g 3 0 (dp + 1) (tkT u m p) acc with
      | none => none
      | some (.inl e) => some (.inl e)
      | some (.inr (D, N, p1)) => some (.inr (fun e => if isSg u m p 45 then fNeg (D e) else fNot (D e), N, p1)))
    else if isSg u m p 40 then (if 24 ≤ dp then some (.inl (tkF u m (tkT u m p))) else match pS u m fd bk g 0 0 (dp + 1) (tkT u m p) acc with
      | none => none
      | some (.inl e) => some (.inl e)
      | some (.inr (D, N, p1)) => if isSg u m p1 41 then some (.inr (D, N, tkT u m p1)) else some (.inl (tkF u m p1)))
    else if tkK u m p = 2 then some (.inr (fun _ => (numD u m p).1, fun _ => false, (numD u m p).2))
    else if tkK u m p = 1 then (if 0 ≤ fnW u m p then (if isSg u m (tkT u m p) 40 then (if 24 ≤ dp then some (.inl (tkF u m (tkT u m (tkT u m p)))) else match pS u m fd bk g 0 0 (dp + 1) (tkT u m (tkT u m p)) acc with
        | none => none
        | some (.inl e) => some (.inl e)
        | some (.inr (D, N, p1)) => if 4 < fnW u m p then (if isSg u m p1 41 then some (.inr (fun e => fAlone (fnW u m p).toNat (D e), N, tkT u m p1)) else some (.inl (tkF u m p1)))
          else if isSg u m p1 44 then (match pS u m fd bk g 0 0 (dp + 1) (tkT u m p1) acc with
            | none => none
            | some (.inl e) => some (.inl e)
            | some (.inr (D2, N2, p2)) => if fnW u m p < 4 then (if isSg u m p2 41 then some (.inr (fun e => fPair (fnW u m p).toNat (D e) (D2 e), orN N N2, tkT u m p2)) else some (.inl (tkF u m p2)))
              else if isSg u m p2 44 then (match pS u m fd bk g 0 0 (dp + 1) (tkT u m p2) acc with
                | none => none
                | some (.inl e) => some (.inl e)
                | some (.inr (D3, N3, p3)) => if isSg u m p3 41 then some (.inr (fun e => fThree (D e) (D2 e) (D3 e), orN N (orN N2 N3), tkT u m p3)) else some (.inl (tkF u m p3))) else some (.inl (tkF u m p2)))
          else some (.inl (tkF u m p1))) else some (.inl (tkF u m (tkT u m p))))
      else if fd p < 0 then some (.inl (tkF u m p)) else if bk (fd p).toNat then some (.inl (tkF u m p)) else some (.inr (fun e => e (fd p).toNat, fun v => decide (v = (fd p).toNat), tkT u m p)))
    else some (.inl (tkF u m p))
