/-! L3: the signs of a text: what both readers find. u: the bytes (0 .. 255), m of them -/
def chr (u : Nat → Int) (m i : Nat) : Int := if i < m then u i else -1
def isL (c : Int) : Bool := (decide (97 ≤ c) && decide (c ≤ 122)) || (decide (65 ≤ c) && decide (c ≤ 90))
def isD (c : Int) : Bool := decide (48 ≤ c) && decide (c ≤ 57)
def isW (c : Int) : Bool := isL c || isD c || decide (c = 95)
def isS (c : Int) : Bool := decide (c = 32)
def rn (P : Int → Bool) (u : Nat → Int) (m : Nat) : Nat → Nat → Nat
  | 0, p => p
  | k + 1, p => if P (chr u m p) then rn P u m k (p + 1) else p
/-- where a stretch from p on ends -/
def en (P : Int → Bool) (u : Nat → Int) (m p : Nat) : Nat := rn P u m (m - p) p
section SGN
variable {P : Int → Bool} {u : Nat → Int} {m p : Nat}
theorem en_t (hP : P (-1) = false) (h : P (chr u m p) = true) : en P u m p = en P u m (p + 1) ∧ p < m := by
  have hp : p < m := by
    by_cases e : p < m
    · exact e
    · unfold chr at h; rw [if_neg e, hP] at h; cases h
  refine ⟨?_, hp⟩
  unfold en
  rw [show m - p = (m - (p + 1)) + 1 by omega]
  show (if P (chr u m p) then rn P u m (m - (p + 1)) (p + 1) else p) = _
  rw [if_pos h]
theorem en_f (h : P (chr u m p) = false) : en P u m p = p := by
  unfold en
  cases m - p with
  | zero => rfl
  | succ k =>
    show (if P (chr u m p) then rn P u m k (p + 1) else p) = _
    rw [if_neg (by rw [h]; decide)]
theorem rn_le : ∀ k p, p ≤ rn P u m k p ∧ rn P u m k p ≤ p + k
  | 0, p => ⟨Nat.le_refl _, Nat.le_refl _⟩
  | k + 1, p => by
    unfold rn
    split
    · have := rn_le k (p + 1)
      omega
    · omega
theorem en_ge : p ≤ en P u m p := (rn_le _ _).1
theorem en_le (h : p ≤ m) : en P u m p ≤ m := by
  have := (rn_le (P := P) (u := u) (m := m) (m - p) p).2
  unfold en; omega
theorem en_stop (hP : P (-1) = false) : P (chr u m (en P u m p)) = false := by
  have key : ∀ k p, m - p = k → P (chr u m (en P u m p)) = false := by
    intro k
    induction k with
    | zero =>
      intro p hk
      cases h : P (chr u m p) with
      | true => have := (en_t hP h).2; omega
      | false => rw [en_f h]; exact h
    | succ k ih =>
      intro p hk
      cases h : P (chr u m p) with
      | true => rw [(en_t hP h).1]; exact ih (p + 1) (by omega)
      | false => rw [en_f h]; exact h
  exact key _ p rfl
end SGN
/-- the code of a sign of one byte or two; -1 if it is none -/
def two2 (c e : Int) : Bool := decide (0 ≤ e) && (decide (c * 256 + e = 31868) || decide (c * 256 + e = 9766) || decide (c * 256 + e = 15677) || decide (c * 256 + e = 8509) || decide (c * 256 + e = 15421) || decide (c * 256 + e = 15933))
def oneL : List Int := [43, 45, 42, 47, 40, 41, 44, 63, 58, 59, 33, 61, 60, 62]
def sgc (c e : Int) : Int := if two2 c e then c * 256 + e else if c ∈ oneL then c else -1
/-- the number's end ahead of a point, its end -/
def nE1 (u : Nat → Int) (m f : Nat) : Nat := en isD u m f
def nPt (u : Nat → Int) (m f : Nat) : Bool := decide (chr u m (nE1 u m f) = 46) && isD (chr u m (nE1 u m f + 1))
def nE2 (u : Nat → Int) (m f : Nat) : Nat := if nPt u m f then en isD u m (nE1 u m f + 1) else nE1 u m f
def nOK (u : Nat → Int) (m f : Nat) : Bool := decide (nE1 u m f - f ≤ 5) && (!nPt u m f || decide (nE2 u m f - nE1 u m f ≤ 5))
/-- digits from p on, k of them, behind a -/
def hor (u : Nat → Int) : Nat → Nat → Int → Int
  | 0, _, a => a
  | k + 1, p, a => hor u k (p + 1) (10 * a + (u p - 48))
def nAb (u : Nat → Int) (m f : Nat) : Int := if nPt u m f then hor u (nE2 u m f - nE1 u m f - 1) (nE1 u m f + 1) (hor u (nE1 u m f - f) f 0) else hor u (nE1 u m f - f) f 0
def nBe (u : Nat → Int) (m f : Nat) : Int := if nPt u m f then 10 ^ (nE2 u m f - nE1 u m f - 1) else 1
/-- where the sign at p begins; its kind (0 end, 1 word, 2 number, 3 sign); its end; its code -/
def tkF (u : Nat → Int) (m p : Nat) : Nat := en isS u m p
def tkK (u : Nat → Int) (m p : Nat) : Nat := if chr u m (tkF u m p) < 0 then 0 else if isL (chr u m (tkF u m p)) then (if en isW u m (tkF u m p) - tkF u m p ≤ 12 then 1 else 3) else if isD (chr u m (tkF u m p)) then (if nOK u m (tkF u m p) then 2 else 3) else 3
def tkT (u : Nat → Int) (m p : Nat) : Nat := if chr u m (tkF u m p) < 0 then tkF u m p else if isL (chr u m (tkF u m p)) then en isW u m (tkF u m p) else if isD (chr u m (tkF u m p)) then nE2 u m (tkF u m p) else tkF u m p + (if two2 (chr u m (tkF u m p)) (chr u m (tkF u m p + 1)) then 2 else 1)
def tkS (u : Nat → Int) (m p : Nat) : Int := if chr u m (tkF u m p) < 0 ∨ isL (chr u m (tkF u m p)) = true ∨ isD (chr u m (tkF u m p)) = true then -1 else sgc (chr u m (tkF u m p)) (chr u m (tkF u m p + 1))
theorem hor_s (u : Nat → Int) : ∀ (k p : Nat) (a : Int), hor u (k + 1) p a = 10 * hor u k p a + (u (p + k) - 48)
  | 0, p, a => rfl
  | k + 1, p, a => by
    show hor u (k + 1) (p + 1) _ = 10 * hor u k (p + 1) _ + _
    rw [hor_s u k (p + 1), show p + 1 + k = p + (k + 1) by omega]
theorem chr_r {u : Nat → Int} {m i : Nat} (hu : ∀ i, i < m → 0 ≤ u i ∧ u i < 256) : -1 ≤ chr u m i ∧ chr u m i < 256 := by
  unfold chr
  split
  · next e => have := hu i e; omega
  · omega
theorem v370_is (c : Int) : v370 c = if isL c then 1 else 0 := by
  unfold v370 isL
  simp only [tst2, tst4, tst5]
  by_cases h1 : c < 97 <;> by_cases h2 : c < 65 <;> by_cases h3 : 90 < c <;> by_cases h4 : 122 < c <;> simp [h1, h2, h3, h4] <;> omega
theorem v369_is (c : Int) : v369 c = if isD c then 1 else 0 := by
  unfold v369 isD
  simp only [tst2, tst4]
  by_cases h1 : c < 48 <;> by_cases h2 : 57 < c <;> simp [h1, h2] <;> omega
