/-! L3: what a text of solids says -/
section SPEC
variable {u : Nat → Int} {m p q : Nat} {s : List Int}
/-- sign p; -1 behind the end -/
def ubS (u : Nat → Int) (m p : Nat) : Int := if p < m then u p else -1
/-- is s at p -/
def wdS (u : Nat → Int) (m : Nat) : Nat → List Int → Bool
  | _, [] => true
  | p, c :: t => decide (ubS u m p = c) && wdS u m (p + 1) t
theorem wdS_le : ∀ {s : List Int} {p : Nat}, p ≤ m → (∀ (i : Nat) (c : Int), s[i]? = some c → 0 ≤ c) → wdS u m p s = true → p + s.length ≤ m
  | [], p, hp, _, _ => hp
  | c :: t, p, hp, h0, h => by
    unfold wdS at h
    rw [Bool.and_eq_true, decide_eq_true_eq] at h
    have c0 := h0 0 c rfl
    have lt : p < m := by
      by_cases w : p < m
      · exact w
      · have := h.1
        unfold ubS at this
        rw [if_neg w] at this
        omega
    have := wdS_le (s := t) (p := p + 1) (by omega) (fun i c e => h0 (i + 1) c (by simpa using e)) h.2
    show p + (t.length + 1) ≤ m
    omega

/-- how many digits there are from p on, at most f -/
def ndF (u : Nat → Int) (m : Nat) : Nat → Nat → Nat
  | 0, _ => 0
  | f + 1, p => if isD (ubS u m p) = true then ndF u m f (p + 1) + 1 else 0
theorem ndF_le : ∀ f p, ndF u m f p ≤ f
  | 0, _ => Nat.le_refl _
  | f + 1, p => by
    have := ndF_le f (p + 1)
    show (if isD (ubS u m p) = true then ndF u m f (p + 1) + 1 else 0) ≤ f + 1
    split <;> omega
/-- the number of j digits -/
def vlS (u : Nat → Int) (m p : Nat) : Nat → Int
  | 0 => 0
  | j + 1 => 10 * vlS u m p j + ubS u m (p + j) - 48
/-- a number's first digit, how many it has, its value, what comes behind it; whether it is one -/
def nmD (u : Nat → Int) (m p : Nat) : Nat := if ubS u m p = 45 then p + 1 else p
def nmK (u : Nat → Int) (m p : Nat) : Nat := ndF u m 5 (nmD u m p)
def nmV (u : Nat → Int) (m p : Nat) : Int := if ubS u m p = 45 then -(vlS u m (nmD u m p) (nmK u m p)) else vlS u m (nmD u m p) (nmK u m p)
def nmZ (u : Nat → Int) (m p : Nat) : Nat := nmD u m p + nmK u m p
def nmOK (u : Nat → Int) (m p : Nat) : Bool := decide (0 < nmK u m p ∧ nmK u m p < 5)
theorem ub_in {c : Int} (e : ubS u m p = c) (h : 0 ≤ c) : p < m := by
  unfold ubS at e
  by_cases w : p < m
  · exact w
  · rw [if_neg w] at e; omega
theorem nmD_le (hp : p ≤ m) : nmD u m p ≤ m := by
  unfold nmD
  by_cases e : ubS u m p = 45
  · rw [if_pos e]
    have := ub_in e (by decide)
    omega
  · rw [if_neg e]; exact hp
theorem dg_c {c : Int} (h : isD c = true) : 48 ≤ c ∧ c ≤ 57 := by unfold isD at h; rw [Bool.and_eq_true, decide_eq_true_eq, decide_eq_true_eq] at h; exact h
/-- the digits one by one -/
theorem nd_at : ∀ f p j, j < ndF u m f p → isD (ubS u m (p + j)) = true
  | 0, _, _, h => absurd h (Nat.not_lt_zero _)
  | f + 1, p, j, h => by
    cases e : isD (ubS u m p)
    · have : ndF u m (f + 1) p = 0 := by
        show (if isD (ubS u m p) = true then ndF u m f (p + 1) + 1 else 0) = 0
        rw [e]; rfl
      omega
    · have : ndF u m (f + 1) p = ndF u m f (p + 1) + 1 := by
        show (if isD (ubS u m p) = true then ndF u m f (p + 1) + 1 else 0) = _
        rw [e]; rfl
      by_cases w : j = 0
      · rw [w]; exact e
      · have := nd_at f (p + 1) (j - 1) (by omega)
        rw [show p + 1 + (j - 1) = p + j by omega] at this
        exact this
theorem nd_stop : ∀ f p, ndF u m f p = f ∨ isD (ubS u m (p + ndF u m f p)) = false
  | 0, _ => Or.inl rfl
  | f + 1, p => by
    cases e : isD (ubS u m p)
    · have : ndF u m (f + 1) p = 0 := by
        show (if isD (ubS u m p) = true then ndF u m f (p + 1) + 1 else 0) = 0
        rw [e]; rfl
      rw [this]; exact Or.inr e
    · have : ndF u m (f + 1) p = ndF u m f (p + 1) + 1 := by
        show (if isD (ubS u m p) = true then ndF u m f (p + 1) + 1 else 0) = _
        rw [e]; rfl
      rw [this]
      rcases nd_stop f (p + 1) with w | w
      · exact Or.inl (by omega)
      · exact Or.inr (by rw [show p + (ndF u m f (p + 1) + 1) = p + 1 + ndF u m f (p + 1) by omega]; exact w)
theorem vlS_b : ∀ j, (∀ i, i < j → isD (ubS u m (p + i)) = true) → j ≤ 5 → 0 ≤ vlS u m p j ∧ vlS u m p j < 10 ^ j
  | 0, _, _ => ⟨Int.le_refl 0, by show (0 : Int) < 10 ^ 0; decide⟩
  | j + 1, h, h5 => by
    obtain ⟨a, b⟩ := vlS_b j (fun i hi => h i (by omega)) (by omega)
    have c := dg_c (h j (by omega))
    have e : (10 : Int) ^ (j + 1) = 10 * 10 ^ j := by rw [Int.pow_succ, Int.mul_comm]
    constructor
    · show 0 ≤ 10 * vlS u m p j + ubS u m (p + j) - 48
      omega
    · show 10 * vlS u m p j + ubS u m (p + j) - 48 < 10 ^ (j + 1)
      rw [e]
      omega
theorem nmZ_le (hp : p ≤ m) : nmZ u m p ≤ m := by
  unfold nmZ nmK
  have h1 := nmD_le (u := u) hp
  by_cases w : ndF u m 5 (nmD u m p) = 0
  · omega
  · have d := dg_c (nd_at (u := u) (m := m) 5 (nmD u m p) (ndF u m 5 (nmD u m p) - 1) (by omega))
    have := ub_in (u := u) (m := m) rfl (by omega : 0 ≤ ubS u m (nmD u m p + (ndF u m 5 (nmD u m p) - 1)))
    omega
theorem p10_5 {j : Nat} (h : j ≤ 5) : (10 : Int) ^ j ≤ 100000 := by
  have : j = 0 ∨ j = 1 ∨ j = 2 ∨ j = 3 ∨ j = 4 ∨ j = 5 := by omega
  rcases this with rfl | rfl | rfl | rfl | rfl | rfl <;> decide
theorem nmV_b : -100000 < nmV u m p ∧ nmV u m p < 100000 := by
  have k5 := ndF_le (u := u) (m := m) 5 (nmD u m p)
  obtain ⟨a, b⟩ := vlS_b (u := u) (m := m) (p := nmD u m p) (nmK u m p) (fun i hi => nd_at 5 _ i hi) k5
  have : (10 : Int) ^ nmK u m p ≤ 10 ^ 5 := by
    have : (10 : Nat) ^ nmK u m p ≤ 10 ^ 5 := Nat.pow_le_pow_right (by decide) k5
    exact_mod_cast this
  have p5 : (10 : Int) ^ 5 = 100000 := by decide
  unfold nmV
  split <;> omega
/-- where number k begins, and what is behind it -/
def nsP (u : Nat → Int) (m p : Nat) : Nat → Option Nat
  | 0 => some p
  | k + 1 => match nsP u m p k with
    | none => none
    | some q => if (decide (k = 0) || wdS u m q [44]) = true then (if nmOK u m (if k = 0 then q else q + 1) = true then some (nmZ u m (if k = 0 then q else q + 1)) else none) else none
def nsV (u : Nat → Int) (m p k : Nat) : Int := match nsP u m p k with
  | none => 0
  | some q => nmV u m (if k = 0 then q else q + 1)
theorem nsP_none {k : Nat} : ∀ j, k ≤ j → nsP u m p k = none → nsP u m p j = none
  | 0, h, e => by rw [Nat.le_zero.mp h] at e; exact e
  | j + 1, h, e => by
    by_cases w : k = j + 1
    · rw [← w]; exact e
    · have := nsP_none j (by omega) e
      show (match nsP u m p j with | none => none | some q => _) = none
      rw [this]
theorem nsP_le (hp : p ≤ m) : ∀ k q, nsP u m p k = some q → q ≤ m
  | 0, q, e => by
    have : p = q := Option.some.inj e
    omega
  | k + 1, q, e => by
    cases e1 : nsP u m p k with
    | none => rw [nsP_none (k + 1) (by omega) e1] at e; exact absurd e (by simp)
    | some r =>
      have hr := nsP_le hp k r e1
      have e' : (if (decide (k = 0) || wdS u m r [44]) = true then (if nmOK u m (if k = 0 then r else r + 1) = true then some (nmZ u m (if k = 0 then r else r + 1)) else none) else none) = some q := by
        have : nsP u m p (k + 1) = (match nsP u m p k with | none => none | some q => if (decide (k = 0) || wdS u m q [44]) = true then (if nmOK u m (if k = 0 then q else q + 1) = true then some (nmZ u m (if k = 0 then q else q + 1)) else none) else none) := rfl
        rw [e1] at this
        exact this.symm.trans e
      by_cases c1 : (decide (k = 0) || wdS u m r [44]) = true
      · rw [if_pos c1] at e'
        by_cases c2 : nmOK u m (if k = 0 then r else r + 1) = true
        · rw [if_pos c2] at e'
          have e3 : nmZ u m (if k = 0 then r else r + 1) = q := Option.some.inj e'
          rw [← e3]
          refine nmZ_le ?_
          by_cases k0 : k = 0
          · rw [if_pos k0]; exact hr
          · rw [if_neg k0]
            rw [decide_eq_false k0, Bool.false_or] at c1
            exact wdS_le (s := [44]) hr (fun i c e => by cases i with | zero => (simp at e; omega) | succ i => simp at e) c1
        · rw [if_neg c2] at e'; exact absurd e' (by simp)
      · rw [if_neg c1] at e'; exact absurd e' (by simp)
/-- many numbers and a bracket: what is behind them -/
def nuS (u : Nat → Int) (m p many : Nat) : Option Nat := match nsP u m p many with
  | none => none
  | some q => if wdS u m q [41] = true then some (q + 1) else none
/-- the end of a line -/
def enS (u : Nat → Int) (m p : Nat) : Option Nat := if wdS u m p [59] = true then some (if ubS u m (p + 1) = 10 then p + 2 else p + 1) else none
end SPEC
