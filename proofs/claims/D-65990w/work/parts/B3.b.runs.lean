/-! L3: runs of a row: the picture; how many there are at most -/
section RUNS
variable {n a b : Nat} {St Ed : Nat → Bool}
/-- x begins a run -/
def isRS (St Ed : Nat → Bool) (x : Nat) : Bool := St x && !(decide (0 < x) && Ed (x - 1))
/-- from a to b there's a run -/
def RunR (n : Nat) (St Ed : Nat → Bool) (a b : Nat) : Prop := a ≤ b ∧ b ≤ n ∧ isRS St Ed a = true ∧ (∀ x, a ≤ x → x < b → Ed x = true) ∧ (b = n ∨ Ed b = false)
/-- how many begin below x -/
def rnN (St Ed : Nat → Bool) (x : Nat) : Nat := cntN (isRS St Ed) x
theorem rnN_s {x : Nat} : rnN St Ed (x + 1) = rnN St Ed x + if isRS St Ed x = true then 1 else 0 := by
  unfold rnN
  rw [cntN_s]
theorem cntN_nth {f : Nat → Bool} {p : Nat} : ∀ N, p < cntN f N → ∃ a, a < N ∧ f a = true ∧ cntN f a = p
  | 0, h => absurd h (Nat.not_lt_zero _)
  | N + 1, h => by
    rw [cntN_s] at h
    by_cases z : p < cntN f N
    · obtain ⟨a, h1, h2, h3⟩ := cntN_nth N z
      exact ⟨a, by omega, h2, h3⟩
    · cases e : f N
      · rw [e] at h; simp at h; omega
      · rw [e] at h; simp at h
        exact ⟨N, by omega, e, by omega⟩
theorem ext_ex : ∀ c a, a + c = n → ∃ b, a ≤ b ∧ b ≤ n ∧ (∀ x, a ≤ x → x < b → Ed x = true) ∧ (b = n ∨ Ed b = false)
  | 0, a, h => ⟨a, Nat.le_refl _, by omega, fun x h1 h2 => by omega, Or.inl (by omega)⟩
  | c + 1, a, h => by
    cases e : Ed a
    · exact ⟨a, Nat.le_refl _, by omega, fun x h1 h2 => by omega, Or.inr e⟩
    · obtain ⟨b, h1, h2, h3, h4⟩ := ext_ex c (a + 1) (by omega)
      refine ⟨b, by omega, h2, fun x g1 g2 => ?_, h4⟩
      by_cases z : x = a
      · rw [z]; exact e
      · exact h3 x (by omega) g2
theorem run_ex {p : Nat} (h : p < rnN St Ed (n + 1)) : ∃ a b, RunR n St Ed a b ∧ rnN St Ed a = p := by
  obtain ⟨a, h1, h2, h3⟩ := cntN_nth _ h
  obtain ⟨b, g1, g2, g3, g4⟩ := ext_ex (n := n) (Ed := Ed) (n - a) a (by omega)
  exact ⟨a, b, ⟨g1, g2, h2, g3, g4⟩, h3⟩
theorem rnN_in (hs : isRS St Ed a = true) (e : ∀ x, a ≤ x → x < b → Ed x = true) : ∀ c, a + c ≤ b → rnN St Ed (a + c + 1) = rnN St Ed a + 1
  | 0, _ => by rw [rnN_s, Nat.add_zero, if_pos hs]
  | c + 1, h => by
    have ih := rnN_in hs e c (by omega)
    rw [rnN_s, show a + (c + 1) = a + c + 1 by omega, ih]
    have : isRS St Ed (a + c + 1) = false := by
      unfold isRS
      rw [show a + c + 1 - 1 = a + c by omega, e (a + c) (by omega) (by omega)]
      simp
    rw [this]; rfl
theorem RunR.cnt (r : RunR n St Ed a b) : rnN St Ed (b + 1) = rnN St Ed a + 1 := by
  have := rnN_in r.2.2.1 r.2.2.2.1 (b - a) (by have := r.1; omega)
  rw [show a + (b - a) = b by have := r.1; omega] at this
  exact this
theorem RunR.lt (r : RunR n St Ed a b) : rnN St Ed a < rnN St Ed (n + 1) := by
  have := r.cnt
  have := cntN_mono (S := isRS St Ed) (i := b + 1) (n + 1) (by have := r.2.1; omega)
  unfold rnN at *
  omega
theorem RunR.end_ {b' : Nat} (r : RunR n St Ed a b) (r' : RunR n St Ed a b') : b = b' := by
  obtain ⟨r1, r2, r3, r4, r5⟩ := r
  obtain ⟨s1, s2, s3, s4, s5⟩ := r'
  rcases Nat.lt_trichotomy b b' with z | z | z
  · have := s4 b r1 z
    rcases r5 with y | y
    · omega
    · rw [this] at y; exact absurd y (by decide)
  · exact z
  · have := r4 b' s1 z
    rcases s5 with y | y
    · omega
    · rw [this] at y; exact absurd y (by decide)
theorem RunR.inj {a' b' : Nat} (r : RunR n St Ed a b) (r' : RunR n St Ed a' b') (e : rnN St Ed a = rnN St Ed a') : a = a' := by
  rcases Nat.lt_trichotomy a a' with z | z | z
  · have h1 := rnN_s (St := St) (Ed := Ed) (x := a)
    rw [if_pos r.2.2.1] at h1
    have := cntN_mono (S := isRS St Ed) (i := a + 1) a' z
    unfold rnN at *; omega
  · exact z
  · have h1 := rnN_s (St := St) (Ed := Ed) (x := a')
    rw [if_pos r'.2.2.1] at h1
    have := cntN_mono (S := isRS St Ed) (i := a' + 1) a z
    unfold rnN at *; omega
end RUNS
/-- sums -/
def sumN (f : Nat → Nat) : Nat → Nat
  | 0 => 0
  | k + 1 => sumN f k + f k
theorem sumN_le {f g : Nat → Nat} : ∀ k, (∀ i, i < k → f i ≤ g i) → sumN f k ≤ sumN g k
  | 0, _ => Nat.le_refl _
  | k + 1, h => by
    have := sumN_le k (fun i hi => h i (by omega))
    have := h k (by omega)
    show sumN f k + f k ≤ sumN g k + g k
    omega
theorem sumN_add {f g : Nat → Nat} : ∀ k, sumN (fun i => f i + g i) k = sumN f k + sumN g k
  | 0 => rfl
  | k + 1 => by
    show sumN (fun i => f i + g i) k + (f k + g k) = sumN f k + f k + (sumN g k + g k)
    rw [sumN_add k]; omega
theorem sumN_c {c : Nat} : ∀ k, sumN (fun _ => c) k = c * k
  | 0 => rfl
  | k + 1 => by show sumN (fun _ => c) k + c = _; rw [sumN_c k, Nat.mul_succ]
theorem sumN_mono {f : Nat → Nat} {i : Nat} : ∀ j, i ≤ j → sumN f i ≤ sumN f j
  | 0, h => by rw [Nat.le_zero.mp h]; exact Nat.le_refl _
  | j + 1, h => by
    by_cases e : i = j + 1
    · rw [e]; exact Nat.le_refl _
    · have := sumN_mono (f := f) (i := i) j (by omega)
      show _ ≤ sumN f j + f j
      omega
theorem sumN_sh {f : Nat → Nat} : ∀ k, sumN (fun i => f (i + 1)) k + f 0 = sumN f (k + 1)
  | 0 => by show 0 + f 0 = 0 + f 0; rfl
  | k + 1 => by
    show sumN (fun i => f (i + 1)) k + f (k + 1) + f 0 = sumN f (k + 1) + f (k + 1)
    rw [← sumN_sh k]; omega
section BOUND
variable {n : Nat} {St Ed : Nat → Nat → Bool}
/-- blocked places of a row -/
def blN (n : Nat) (St : Nat → Nat → Bool) (y : Nat) : Nat := cntN (fun x => !St y x) (n + 1)
theorem st_bl {f : Nat → Bool} : ∀ N, cntN f N + cntN (fun x => !f x) N = N
  | 0 => rfl
  | N + 1 => by
    have := st_bl (f := f) N
    rw [cntN_s, cntN_s]
    cases f N <;> simp <;> omega
theorem cntN_imp {f g : Nat → Bool} : ∀ N, (∀ i, i < N → f i = true → g i = true) → cntN f N ≤ cntN g N
  | 0, _ => Nat.le_refl _
  | N + 1, h => by
    have := cntN_imp N (fun i hi => h i (by omega))
    have e := h N (by omega)
    rw [cntN_s, cntN_s]
    cases hf : f N
    · simp; omega
    · rw [e hf]; simp; omega
theorem row1 {y : Nat} : rnN (St y) (Ed y) (n + 1) + blN n St y ≤ n + 1 := by
  have := cntN_imp (f := isRS (St y) (Ed y)) (g := St y) (n + 1) (fun i _ e => by unfold isRS at e; exact (Bool.and_eq_true_iff.mp e).1)
  have := st_bl (f := St y) (n + 1)
  unfold rnN blN
  omega
theorem row2 {y : Nat} {U D : Nat → Bool} (h : ∀ x, x < n → St y x = true → St y (x + 1) = true → Ed y x = false → U x = true ∨ D x = true) : ∀ N, N ≤ n → rnN (St y) (Ed y) (N + 1) ≤ 1 + cntN (fun x => !St y x) N + cntN U N + cntN D N
  | 0, _ => by
    rw [rnN_s]
    show 0 + _ ≤ _
    split <;> omega
  | N + 1, hN => by
    have ih := row2 h N (by omega)
    rw [rnN_s, cntN_s, cntN_s, cntN_s]
    by_cases z : isRS (St y) (Ed y) (N + 1) = true
    · rw [if_pos z]
      unfold isRS at z
      rw [Bool.and_eq_true, show N + 1 - 1 = N by omega] at z
      obtain ⟨z1, z2⟩ := z
      have z2 : Ed y N = false := by simpa using z2
      cases e : St y N
      · simp; omega
      · rcases h N (by omega) e z1 z2 with w | w
        · rw [w]; simp; omega
        · rw [w]; simp; omega
    · rw [if_neg z]
      omega
/-- the desk's room for runs is enough -/
theorem runs_le (hn : n ≤ 52) (h : ∀ y x, y ≤ n → x < n → St y x = true → St y (x + 1) = true → Ed y x = false → (y < n ∧ St (y + 1) x = false) ∨ (0 < y ∧ St (y - 1) x = false)) : sumN (fun y => rnN (St y) (Ed y) (n + 1)) (n + 1) ≤ 2120 := by
  have i1 : sumN (fun y => rnN (St y) (Ed y) (n + 1)) (n + 1) + sumN (blN n St) (n + 1) ≤ (n + 1) * (n + 1) := by
    rw [← sumN_add, ← sumN_c]
    exact sumN_le _ (fun y _ => row1)
  have i2 : sumN (fun y => rnN (St y) (Ed y) (n + 1)) (n + 1) ≤ sumN (fun y => ((1 + blN n St y) + (if y < n then blN n St (y + 1) else 0)) + (if 0 < y then blN n St (y - 1) else 0)) (n + 1) := by
    refine sumN_le _ (fun y hy => ?_)
    have := row2 (n := n) (St := St) (Ed := Ed) (y := y) (U := fun x => decide (y < n) && !St (y + 1) x) (D := fun x => decide (0 < y) && !St (y - 1) x) (fun x hx a b c => by
      rcases h y x (by omega) hx a b c with ⟨w1, w2⟩ | ⟨w1, w2⟩
      · exact Or.inl (by rw [decide_eq_true w1, w2]; rfl)
      · exact Or.inr (by rw [decide_eq_true w1, w2]; rfl)) n (Nat.le_refl _)
    have m0 := cntN_mono (S := fun x => !St y x) (i := n) (n + 1) (by omega)
    have u : cntN (fun x => decide (y < n) && !St (y + 1) x) n ≤ if y < n then blN n St (y + 1) else 0 := by
      by_cases z : y < n
      · rw [if_pos z]
        have := cntN_mono (S := fun x => !St (y + 1) x) (i := n) (n + 1) (by omega)
        have := cntN_imp (f := fun x => decide (y < n) && !St (y + 1) x) (g := fun x => !St (y + 1) x) n (fun i _ e => (Bool.and_eq_true_iff.mp e).2)
        unfold blN
        omega
      · rw [if_neg z, cntN_none n (fun x _ => by rw [decide_eq_false z]; rfl)]; exact Nat.le_refl _
    have v : cntN (fun x => decide (0 < y) && !St (y - 1) x) n ≤ if 0 < y then blN n St (y - 1) else 0 := by
      by_cases z : 0 < y
      · rw [if_pos z]
        have := cntN_mono (S := fun x => !St (y - 1) x) (i := n) (n + 1) (by omega)
        have := cntN_imp (f := fun x => decide (0 < y) && !St (y - 1) x) (g := fun x => !St (y - 1) x) n (fun i _ e => (Bool.and_eq_true_iff.mp e).2)
        unfold blN
        omega
      · rw [if_neg z, cntN_none n (fun x _ => by rw [decide_eq_false z]; rfl)]; exact Nat.le_refl _
    unfold blN at *
    omega
  rw [sumN_add, sumN_add, sumN_add, sumN_c] at i2
  have i3 : sumN (fun y => if y < n then blN n St (y + 1) else 0) (n + 1) ≤ sumN (blN n St) (n + 1) := by
    have e1 : sumN (fun y => if y < n then blN n St (y + 1) else 0) (n + 1) = sumN (fun y => if y < n then blN n St (y + 1) else 0) n + 0 := by
      show _ + (if n < n then _ else 0) = _
      rw [if_neg (Nat.lt_irrefl _)]
    have e2 : sumN (fun y => if y < n then blN n St (y + 1) else 0) n ≤ sumN (fun y => blN n St (y + 1)) n := sumN_le n (fun i hi => by rw [if_pos hi]; exact Nat.le_refl _)
    have e3 := sumN_sh (f := blN n St) n
    omega
  have i4 : sumN (fun y => if 0 < y then blN n St (y - 1) else 0) (n + 1) ≤ sumN (blN n St) (n + 1) := by
    have e3 := sumN_sh (f := fun y => if 0 < y then blN n St (y - 1) else 0) n
    have e4 : sumN (fun i => if 0 < i + 1 then blN n St (i + 1 - 1) else 0) n = sumN (blN n St) n := by
      have a1 := sumN_le (f := fun i => if 0 < i + 1 then blN n St (i + 1 - 1) else 0) (g := blN n St) n (fun i hi => by rw [if_pos (by omega)]; exact Nat.le_refl _)
      have a2 := sumN_le (g := fun i => if 0 < i + 1 then blN n St (i + 1 - 1) else 0) (f := blN n St) n (fun i hi => by rw [if_pos (by omega)]; exact Nat.le_refl _)
      omega
    have e5 := sumN_mono (f := blN n St) (i := n) (n + 1) (by omega)
    simp only [Nat.lt_irrefl, if_false] at e3
    omega
  have sq : (n + 1) * (n + 1) ≤ 53 * 53 := Nat.mul_le_mul (by omega) (by omega)
  omega
end BOUND
section FREE
variable {n r : Nat} {Q : Nat → Nat → Nat → Bool}
/-- is a place of a row free; is the step from it to the next one -/
noncomputable def frS (n r : Nat) (Q : Nat → Nat → Nat → Bool) (Y X : Nat) : Bool := @decide (¬ blk n r Q X Y 0) (Classical.propDecidable _)
noncomputable def frE (n r : Nat) (Q : Nat → Nat → Nat → Bool) (Y X : Nat) : Bool := @decide (¬ blk n r Q X Y 1) (Classical.propDecidable _)
theorem frS_t {Y X : Nat} : frS n r Q Y X = true ↔ ¬ blk n r Q X Y 0 := by unfold frS; exact @decide_eq_true_iff _ (Classical.propDecidable _)
theorem frE_t {Y X : Nat} : frE n r Q Y X = true ↔ ¬ blk n r Q X Y 1 := by unfold frE; exact @decide_eq_true_iff _ (Classical.propDecidable _)
theorem frS_f {Y X : Nat} : frS n r Q Y X = false ↔ blk n r Q X Y 0 := by unfold frS; rw [decide_eq_false_iff_not, Classical.not_not]
theorem frE_f {Y X : Nat} : frE n r Q Y X = false ↔ blk n r Q X Y 1 := by unfold frE; rw [decide_eq_false_iff_not, Classical.not_not]
theorem und01 {x y : Int} (h : und r x y 0 = true) : und r x y 1 = true := by
  unfold und at h ⊢
  rw [decide_eq_true_eq] at h ⊢
  omega
theorem und81 {x y : Int} (h : und r (x - 8) y 0 = true) : und r x y 1 = true := by
  unfold und at h ⊢
  rw [decide_eq_true_eq] at h ⊢
  omega
/-- where a step is free, both ends are -/
theorem free_ends {Y X : Nat} (h : frE n r Q Y X = true) : frS n r Q Y X = true ∧ frS n r Q Y (X + 1) = true := by
  rw [frE_t] at h
  refine ⟨frS_t.mpr (fun ⟨q, y, x, h1, h2, h3, h4, h5⟩ => h ⟨q, y, x, h1, h2, h3, h4, und01 h5⟩), frS_t.mpr (fun ⟨q, y, x, h1, h2, h3, h4, h5⟩ => h ⟨q, y, x, h1, h2, h3, h4, und81 ?_⟩)⟩
  rw [show 8 * ((x : Int) - X) + sU q - 8 = 8 * ((x : Int) - (X + 1 : Nat)) + sU q by omega]
  exact h5
theorem ocK_ge (hr : r ≤ 8) : r ≤ ocK r := by unfold ocK; omega
/-- a step that is blocked between free places blocks a place beside -/
theorem und_side {x y : Int} (hr : 1 ≤ r) (hK : r ≤ ocK r) (h1 : und r x y 1 = true) (h2 : und r x y 0 = false) (h3 : und r (x - 8) y 0 = false) : (0 < y ∧ und r x (y - 8) 0 = true) ∨ (y < 0 ∧ und r x (y + 8) 0 = true) := by
  unfold und at h1 h2 h3 ⊢
  rw [decide_eq_true_eq] at h1
  rw [decide_eq_false_iff_not] at h2 h3
  rw [decide_eq_true_eq, decide_eq_true_eq]
  generalize ocK r = K at *
  have x0 : 0 < x := by
    refine Classical.byContradiction (fun z => h2 ?_)
    omega
  have x8 : x < 8 := by
    refine Classical.byContradiction (fun z => h3 ?_)
    omega
  have a1 : 8 * (K : Int) < x + y ∨ 8 * (K : Int) < x - y := by
    refine Classical.byContradiction (fun z => h2 ?_)
    omega
  have a2 : 8 * (K : Int) < 8 - x + y ∨ 8 * (K : Int) < 8 - x - y := by
    refine Classical.byContradiction (fun z => h3 ?_)
    omega
  clear h2 h3
  by_cases yp : 0 < y
  · left
    refine ⟨yp, ?_⟩
    omega
  · right
    refine ⟨by omega, ?_⟩
    omega
theorem step_side {y x : Nat} (hr : 1 ≤ r) (hr8 : r ≤ 8) (hy : y ≤ n) (h0 : frS n r Q y x = true) (h1 : frS n r Q y (x + 1) = true) (h2 : frE n r Q y x = false) : (y < n ∧ frS n r Q (y + 1) x = false) ∨ (0 < y ∧ frS n r Q (y - 1) x = false) := by
  rw [frS_t] at h0 h1
  obtain ⟨q, yy, xx, a1, a2, a3, a4, a5⟩ := frE_f.mp h2
  have sv := sV_b (q := q)
  have b0 : und r (8 * ((xx : Int) - x) + sU q) (8 * ((yy : Int) - y) + sV q) 0 = false := Bool.eq_false_iff.mpr (fun z => h0 ⟨q, yy, xx, a1, a2, a3, a4, z⟩)
  have b1 : und r (8 * ((xx : Int) - x) + sU q - 8) (8 * ((yy : Int) - y) + sV q) 0 = false := Bool.eq_false_iff.mpr (fun z => h1 ⟨q, yy, xx, a1, a2, a3, a4, by
    rw [show 8 * ((xx : Int) - (x + 1 : Nat)) + sU q = 8 * ((xx : Int) - x) + sU q - 8 by omega]; exact z⟩)
  rcases und_side hr (ocK_ge hr8) a5 b0 b1 with ⟨c1, c2⟩ | ⟨c1, c2⟩
  · left
    refine ⟨by omega, frS_f.mpr ⟨q, yy, xx, a1, a2, a3, a4, ?_⟩⟩
    rw [show 8 * ((yy : Int) - (y + 1 : Nat)) + sV q = 8 * ((yy : Int) - y) + sV q - 8 by omega]
    exact c2
  · right
    refine ⟨by omega, frS_f.mpr ⟨q, yy, xx, a1, a2, a3, a4, ?_⟩⟩
    rw [show 8 * ((yy : Int) - (y - 1 : Nat)) + sV q = 8 * ((yy : Int) - y) + sV q + 8 by omega]
    exact c2
/-- how many runs row k has; how many there are ahead of it -/
noncomputable def rwT (n r : Nat) (Q : Nat → Nat → Nat → Bool) (evv k : Nat) : Nat := rnN (frS n r Q (k * evv)) (frE n r Q (k * evv)) (n + 1)
noncomputable def rwB (n r : Nat) (Q : Nat → Nat → Nat → Bool) (evv k : Nat) : Nat := sumN (rwT n r Q evv) k
theorem rwB_le {evv k : Nat} (hn : n ≤ 52) (hr : 1 ≤ r) (hr8 : r ≤ 8) (hev : 1 ≤ evv) (hk : k * evv ≤ n) : rwB n r Q evv (k + 1) ≤ 2120 := by
  by_cases e1 : evv = 1
  · subst e1
    have hk' : k ≤ n := by omega
    have m := sumN_mono (f := rwT n r Q 1) (i := k + 1) (n + 1) (by omega)
    have b := runs_le (n := n) (St := fun y => frS n r Q y) (Ed := fun y => frE n r Q y) hn (fun y x hy hx a b c => step_side hr hr8 hy a b c)
    have e : sumN (rwT n r Q 1) (n + 1) ≤ sumN (fun y => rnN (frS n r Q y) (frE n r Q y) (n + 1)) (n + 1) := sumN_le _ (fun i _ => by unfold rwT; rw [Nat.mul_one]; exact Nat.le_refl _)
    unfold rwB
    omega
  · have hk' : k ≤ 26 := by
      have : k * 2 ≤ k * evv := Nat.mul_le_mul_left k (by omega)
      omega
    have b := sumN_le (f := rwT n r Q evv) (g := fun _ => 53) (k + 1) (fun i _ => by
      have := cntN_le (isRS (frS n r Q (i * evv)) (frE n r Q (i * evv))) (n + 1)
      unfold rwT rnN
      omega)
    rw [sumN_c] at b
    unfold rwB
    omega
end FREE
