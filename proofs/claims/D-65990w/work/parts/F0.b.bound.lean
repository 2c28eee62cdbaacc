/-! L3: equations: how large alternating products are -/
section NRM
variable {n : Nat} {w u : (Nat → Bool) → Int} {r : Nat → Int} {S : Nat → Bool}
theorem sgp_ge {m : Nat} : ∀ k, k ≤ m → ∀ j, sgp (mns S m) j k = sgp S j k
  | 0, _, _ => rfl
  | k + 1, h, j => by
    show sgp (mns S m) j k * (if (decide (j < k) && mns S m k) = true then -1 else 1) = sgp S j k * (if (decide (j < k) && S k) = true then -1 else 1)
    rw [sgp_ge k (by omega)]
    have : mns S m k = S k := by
      unfold mns
      rw [decide_eq_true (show k ≠ m by omega), Bool.and_true]
    rw [this]
theorem wdg_F (h : S n = false) : wdg (n + 1) w r S = wdg n w r S := by
  unfold wdg
  rw [sI_s, h, if_neg Bool.false_ne_true, Int.add_zero]
  refine sI_congr n (fun j _ => ?_)
  have : sgp S j (n + 1) = sgp S j n := by
    show sgp S j n * (if (decide (j < n) && S n) = true then -1 else 1) = _
    rw [h, Bool.and_false, if_neg Bool.false_ne_true, Int.mul_one]
  rw [this]
theorem wdg_T (h : S n = true) : wdg (n + 1) w r S = r n * w (mns S n) - wdg n (fun S' => w (pls S' n)) r (mns S n) := by
  unfold wdg
  rw [sI_s, if_pos h]
  have e1 : sgp S n (n + 1) = 1 := by
    have : ∀ k, k ≤ n + 1 → sgp S n k = 1 := by
      intro k
      induction k with
      | zero => intro _; rfl
      | succ k ih =>
        intro hk
        show sgp S n k * (if (decide (n < k) && S k) = true then -1 else 1) = 1
        rw [ih (by omega), decide_eq_false (by omega), Bool.false_and, if_neg Bool.false_ne_true]; rfl
    exact this (n + 1) (Nat.le_refl _)
  have e2 : sI (fun j => if S j = true then sgp S j (n + 1) * (r j * w (mns S j)) else 0) n = -sI (fun j => if mns S n j = true then sgp (mns S n) j n * (r j * w (pls (mns (mns S n) j) n)) else 0) n := by
    rw [← sI_neg]
    refine sI_congr n (fun j hj => ?_)
    have sj : mns S n j = S j := by
      unfold mns
      rw [decide_eq_true (show j ≠ n by omega), Bool.and_true]
    have sg : sgp S j (n + 1) = -sgp (mns S n) j n := by
      rw [sgp_ge n (Nat.le_refl n)]
      show sgp S j n * (if (decide (j < n) && S n) = true then -1 else 1) = _
      rw [h, decide_eq_true hj, Bool.true_and, if_pos rfl, Int.mul_neg, Int.mul_one]
    have st : pls (mns (mns S n) j) n = mns S j := funext fun i => by
      unfold pls mns
      by_cases e : i = n
      · subst e
        simp [h, show i ≠ j by omega]
      · simp [e]
    rw [sj, sg, st]
    by_cases c : S j = true
    · rw [if_pos c, if_pos c, Int.neg_mul]
    · rw [if_neg c, if_neg c]; rfl
  rw [e1, e2, Int.one_mul]
  simp only []
  omega
/-- over all sets below n -/
def sS : Nat → ((Nat → Bool) → Int) → Int
  | 0, f => f (fun _ => false)
  | n + 1, f => sS n f + sS n (fun S => f (pls S n))
theorem sS_congr : ∀ n {f g : (Nat → Bool) → Int}, (∀ S, (∀ i, n ≤ i → S i = false) → f S = g S) → sS n f = sS n g
  | 0, _, _, h => h _ (fun _ _ => rfl)
  | n + 1, f, g, h => by
    show sS n f + sS n (fun S => f (pls S n)) = sS n g + sS n (fun S => g (pls S n))
    rw [sS_congr n (fun S hS => h S (fun i hi => hS i (by omega))), sS_congr n (g := fun S => g (pls S n)) (fun S hS => h (pls S n) (fun i hi => by
      unfold pls
      rw [hS i (by omega), decide_eq_false (by omega)]; rfl))]
theorem sS_add : ∀ n {f g : (Nat → Bool) → Int}, sS n (fun S => f S + g S) = sS n f + sS n g
  | 0, _, _ => rfl
  | n + 1, f, g => by
    show sS n (fun S => f S + g S) + sS n (fun S => f (pls S n) + g (pls S n)) = (sS n f + sS n (fun S => f (pls S n))) + (sS n g + sS n (fun S => g (pls S n)))
    rw [sS_add n, sS_add n]; omega
theorem sS_mul : ∀ n {c : Int} {f : (Nat → Bool) → Int}, sS n (fun S => c * f S) = c * sS n f
  | 0, _, _ => rfl
  | n + 1, c, f => by
    show sS n (fun S => c * f S) + sS n (fun S => c * f (pls S n)) = c * (sS n f + sS n (fun S => f (pls S n)))
    rw [sS_mul n, sS_mul n, Int.mul_add]
theorem sS_nn : ∀ n {f : (Nat → Bool) → Int}, (∀ S, 0 ≤ f S) → 0 ≤ sS n f
  | 0, _, h => h _
  | n + 1, f, h => Int.add_nonneg (sS_nn n h) (sS_nn n (fun S => h (pls S n)))
theorem sS_le : ∀ n {f : (Nat → Bool) → Int}, (∀ S, 0 ≤ f S) → ∀ S, (∀ i, n ≤ i → S i = false) → f S ≤ sS n f
  | 0, f, h, S, hS => by
    have : S = fun _ => false := funext fun i => hS i (Nat.zero_le i)
    rw [this]
    exact Int.le_refl _
  | n + 1, f, h, S, hS => by
    show f S ≤ sS n f + sS n (fun S => f (pls S n))
    have n1 := sS_nn n h
    have n2 := sS_nn n (f := fun S => f (pls S n)) (fun S => h (pls S n))
    cases c : S n
    · have := sS_le n h S (fun i hi => by
        by_cases e : i = n
        · rw [e]; exact c
        · exact hS i (by omega))
      omega
    · have := sS_le n (f := fun S => f (pls S n)) (fun S => h (pls S n)) (mns S n) (fun i hi => by
        unfold mns
        by_cases e : i = n
        · rw [e]; simp
        · rw [hS i (by omega)]; rfl)
      have e : pls (mns S n) n = S := funext fun i => by
        unfold pls mns
        by_cases e : i = n
        · rw [e, c]; simp
        · simp [e]
      simp only [e] at this
      omega
/-- a row taken out again -/
def io : Nat → ((Nat → Bool) → Int) → (Nat → Int) → (Nat → Bool) → Int
  | 0, _, _, _ => 0
  | n + 1, w, r, S => if S n = true then -io n (fun S' => w (pls S' n)) r (mns S n) else io n w r S + r n * w (pls S n)
def nrm (n : Nat) (w : (Nat → Bool) → Int) : Int := sS n (fun S => w S * w S)
def rnm (n : Nat) (r : Nat → Int) : Int := sI (fun j => r j * r j) n
theorem pls_at : pls S n n = true := by unfold pls; simp
theorem io_F (h : S n = false) : io (n + 1) w r S = io n w r S + r n * w (pls S n) := by
  show (if S n = true then _ else _) = _
  rw [if_neg (by rw [h]; exact Bool.false_ne_true)]
theorem io_T (h : S n = false) : io (n + 1) w r (pls S n) = -io n (fun S' => w (pls S' n)) r S := by
  show (if pls S n n = true then -io n (fun S' => w (pls S' n)) r (mns (pls S n) n) else _) = _
  rw [if_pos pls_at, mns_pls h]
theorem wdg_P (h : S n = false) : wdg (n + 1) w r (pls S n) = r n * w S - wdg n (fun S' => w (pls S' n)) r S := by
  rw [wdg_T pls_at, mns_pls h]
theorem io_adj : ∀ n {w u : (Nat → Bool) → Int}, sS n (fun S => io n w r S * u S) = sS n (fun S => w S * wdg n u r S)
  | 0, w, u => by
    show (0 : Int) * _ = _ * sI _ 0
    rw [Int.zero_mul]
    exact (Int.mul_zero _).symm
  | n + 1, w, u => by
    show sS n (fun S => io (n + 1) w r S * u S) + sS n (fun S => io (n + 1) w r (pls S n) * u (pls S n)) = sS n (fun S => w S * wdg (n + 1) u r S) + sS n (fun S => w (pls S n) * wdg (n + 1) u r (pls S n))
    rw [sS_congr n (g := fun S => io n w r S * u S + r n * (w (pls S n) * u S)) (fun S hS => by rw [io_F (hS n (Nat.le_refl n))]; grind), sS_congr n (f := fun S => io (n + 1) w r (pls S n) * u (pls S n)) (g := fun S => (-1) * (io n (fun S' => w (pls S' n)) r S * u (pls S n))) (fun S hS => by rw [io_T (hS n (Nat.le_refl n))]; grind), sS_congr n (f := fun S => w S * wdg (n + 1) u r S) (g := fun S => w S * wdg n u r S) (fun S hS => by rw [wdg_F (hS n (Nat.le_refl n))]), sS_congr n (f := fun S => w (pls S n) * wdg (n + 1) u r (pls S n)) (g := fun S => r n * (w (pls S n) * u S) + (-1) * (w (pls S n) * wdg n (fun S' => u (pls S' n)) r S)) (fun S hS => by rw [wdg_P (hS n (Nat.le_refl n))]; grind)]
    rw [sS_add, sS_add, sS_mul, sS_mul, sS_mul, io_adj n (w := w) (u := u), io_adj n (w := fun S' => w (pls S' n)) (u := fun S => u (pls S n))]
    omega
theorem nrm_eq : ∀ n {w : (Nat → Bool) → Int}, nrm n (wdg n w r) + nrm n (io n w r) = rnm n r * nrm n w
  | 0, w => by
    show sI _ 0 * sI _ 0 + (0 : Int) * 0 = sI _ 0 * _
    show (0 : Int) * 0 + 0 * 0 = 0 * _
    rw [Int.zero_mul, Int.zero_mul]; rfl
  | n + 1, w => by
    have i1 := nrm_eq n (w := w)
    have i2 := nrm_eq n (w := fun S => w (pls S n))
    have ad := io_adj (r := r) n (w := w) (u := fun S => w (pls S n))
    unfold nrm at i1 i2 ⊢
    show sS n (fun S => wdg (n + 1) w r S * wdg (n + 1) w r S) + sS n (fun S => wdg (n + 1) w r (pls S n) * wdg (n + 1) w r (pls S n)) + (sS n (fun S => io (n + 1) w r S * io (n + 1) w r S) + sS n (fun S => io (n + 1) w r (pls S n) * io (n + 1) w r (pls S n))) = (rnm n r + r n * r n) * (sS n (fun S => w S * w S) + sS n (fun S => w (pls S n) * w (pls S n)))
    rw [sS_congr n (f := fun S => wdg (n + 1) w r S * wdg (n + 1) w r S) (g := fun S => wdg n w r S * wdg n w r S) (fun S hS => by rw [wdg_F (hS n (Nat.le_refl n))]), sS_congr n (f := fun S => wdg (n + 1) w r (pls S n) * wdg (n + 1) w r (pls S n)) (g := fun S => (r n * r n) * (w S * w S) + ((-2 * r n) * (w S * wdg n (fun S' => w (pls S' n)) r S) + wdg n (fun S' => w (pls S' n)) r S * wdg n (fun S' => w (pls S' n)) r S)) (fun S hS => by rw [wdg_P (hS n (Nat.le_refl n))]; grind), sS_congr n (f := fun S => io (n + 1) w r S * io (n + 1) w r S) (g := fun S => io n w r S * io n w r S + ((2 * r n) * (io n w r S * w (pls S n)) + (r n * r n) * (w (pls S n) * w (pls S n)))) (fun S hS => by rw [io_F (hS n (Nat.le_refl n))]; grind), sS_congr n (f := fun S => io (n + 1) w r (pls S n) * io (n + 1) w r (pls S n)) (g := fun S => io n (fun S' => w (pls S' n)) r S * io n (fun S' => w (pls S' n)) r S) (fun S hS => by rw [io_T (hS n (Nat.le_refl n)), Int.neg_mul_neg])]
    rw [sS_add, sS_add, sS_add, sS_add, sS_mul, sS_mul, sS_mul, sS_mul, ad]
    generalize sS n (fun S => w S * wdg n (fun S' => w (pls S' n)) r S) = X at *
    generalize sS n (fun S => w S * w S) = a at *
    generalize sS n (fun S => w (pls S n) * w (pls S n)) = b at *
    generalize sS n (fun S => wdg n w r S * wdg n w r S) = c at *
    generalize sS n (fun S => wdg n (fun S' => w (pls S' n)) r S * wdg n (fun S' => w (pls S' n)) r S) = e at *
    generalize sS n (fun S => io n w r S * io n w r S) = f at *
    generalize sS n (fun S => io n (fun S' => w (pls S' n)) r S * io n (fun S' => w (pls S' n)) r S) = g at *
    generalize rnm n r = q at *
    generalize r n = p at *
    grind
theorem sq_nn (x : Int) : 0 ≤ x * x := by
  rcases Int.le_total 0 x with h | h
  · exact Int.mul_nonneg h h
  · have := Int.mul_nonneg (show 0 ≤ -x by omega) (show 0 ≤ -x by omega)
    rwa [Int.neg_mul_neg] at this
theorem nrm_nn (n : Nat) (w : (Nat → Bool) → Int) : 0 ≤ nrm n w := sS_nn n (fun S => sq_nn _)
theorem rnm_nn (n : Nat) (r : Nat → Int) : 0 ≤ rnm n r := by
  unfold rnm
  induction n with
  | zero => exact Int.le_refl 0
  | succ n ih => exact Int.add_nonneg ih (sq_nn _)
/-- one row more: no more than as much longer -/
theorem nrm_step {q b : Int} (h1 : rnm n r ≤ q) (h2 : nrm n w ≤ b) : nrm n (wdg n w r) ≤ q * b := by
  have e := nrm_eq (r := r) n (w := w)
  have n1 := nrm_nn n (io n w r)
  have n2 := nrm_nn n w
  have n3 := rnm_nn n r
  have : rnm n r * nrm n w ≤ q * b := Int.mul_le_mul h1 h2 n2 (Int.le_trans n3 h1)
  omega
theorem nrm_at {S : Nat → Bool} (hS : ∀ i, n ≤ i → S i = false) : w S * w S ≤ nrm n w := sS_le n (f := fun S => w S * w S) (fun S => sq_nn _) S hS
theorem nrm_0 : ∀ n {N : Nat}, n ≤ N → nrm n (w0 N) = 1
  | 0, N, _ => by
    show w0 N (fun _ => false) * w0 N (fun _ => false) = 1
    unfold w0
    rw [if_pos (emS_iff.mpr (fun _ _ => rfl))]; rfl
  | n + 1, N, h => by
    show sS n (fun S => w0 N S * w0 N S) + sS n (fun S => w0 N (pls S n) * w0 N (pls S n)) = 1
    have e := nrm_0 n (N := N) (by omega)
    unfold nrm at e
    rw [e, sS_congr n (g := fun S => 0 * w0 N S) (fun S _ => by
      have : w0 N (pls S n) = 0 := by
        unfold w0
        rw [if_neg (fun z => by
          have := emS_iff.mp z n (by omega)
          rw [pls_at] at this; cases this)]
      rw [this, Int.zero_mul, Int.zero_mul]), sS_mul, Int.zero_mul]; rfl
end NRM
section L1
variable {N q : Nat} {w : (Nat → Bool) → Int} {r : Nat → Int} {S : Nat → Bool}
theorem sI_abs {f : Nat → Int} : ∀ N, (sI f N).natAbs ≤ sumN (fun j => (f j).natAbs) N
  | 0 => Nat.le_refl 0
  | N + 1 => by
    show (sI f N + f N).natAbs ≤ sumN (fun j => (f j).natAbs) N + (f N).natAbs
    have := sI_abs (f := f) N
    omega
theorem sumN_mn {f g : Nat → Nat} : ∀ N, (∀ i, i < N → f i ≤ g i) → sumN f N ≤ sumN g N
  | 0, _ => Nat.le_refl 0
  | N + 1, h => Nat.add_le_add (sumN_mn N (fun i hi => h i (by omega))) (h N (by omega))
theorem sumN_mulr {f : Nat → Nat} {c : Nat} : ∀ N, sumN (fun i => f i * c) N = sumN f N * c
  | 0 => (Nat.zero_mul c).symm
  | N + 1 => by
    show sumN (fun i => f i * c) N + f N * c = (sumN f N + f N) * c
    rw [sumN_mulr N, Nat.add_mul]
theorem sgp_abs : ∀ m {j : Nat}, (sgp S j m).natAbs = 1
  | 0, _ => rfl
  | m + 1, j => by
    show (sgp S j m * _).natAbs = 1
    rw [Int.natAbs_mul, sgp_abs m]
    split <;> rfl
/-- the sum of the sizes of a row -/
def rl (n : Nat) (r : Nat → Int) : Nat := sumN (fun j => (r j).natAbs) n
/-- of products of k rows on columns below q, and the last column q: sets without it, with it -/
def Bd1 (q W k : Nat) (w : (Nat → Bool) → Int) : Prop := ∀ S : Nat → Bool, (S q = false → (w S).natAbs ≤ 4 ^ k) ∧ (w S).natAbs ≤ (k * W + 1) * 4 ^ k
theorem Bd1.step {W k : Nat} (b : Bd1 q W k w) (h1 : rl q r ≤ 4) (h2 : (r q).natAbs ≤ W) : Bd1 q W (k + 1) (wdg (q + 1) w r) := by
  intro S
  have base : ∀ (m : Nat) (c : Nat), (∀ j, j < m → (w (mns S j)).natAbs ≤ c) → (sI (fun j => if S j = true then sgp S j (q + 1) * (r j * w (mns S j)) else 0) m).natAbs ≤ rl m r * c := fun m c hc => by
    refine Nat.le_trans (sI_abs m) ?_
    unfold rl
    rw [← sumN_mulr]
    refine sumN_mn m (fun j hj => ?_)
    split
    · rw [Int.natAbs_mul, Int.natAbs_mul, sgp_abs, Nat.one_mul]
      exact Nat.mul_le_mul_left _ (hc j hj)
    · exact Nat.zero_le _
  constructor
  · intro hS
    unfold wdg
    rw [sI_s, hS, if_neg Bool.false_ne_true, Int.add_zero]
    have := base q (4 ^ k) (fun j hj => (b (mns S j)).1 (by unfold mns; rw [hS]; rfl))
    refine Nat.le_trans this ?_
    rw [Nat.pow_succ, Nat.mul_comm (4 ^ k) 4]
    exact Nat.mul_le_mul_right _ h1
  · unfold wdg
    rw [sI_s]
    have a1 := base q ((k * W + 1) * 4 ^ k) (fun j hj => (b (mns S j)).2)
    have a2 : (if S q = true then sgp S q (q + 1) * (r q * w (mns S q)) else 0).natAbs ≤ W * 4 ^ k := by
      split
      · rw [Int.natAbs_mul, Int.natAbs_mul, sgp_abs, Nat.one_mul]
        exact Nat.mul_le_mul h2 ((b (mns S q)).1 (by unfold mns; simp))
      · exact Nat.zero_le _
    have a3 : rl q r * ((k * W + 1) * 4 ^ k) ≤ 4 * ((k * W + 1) * 4 ^ k) := Nat.mul_le_mul_right _ h1
    have a4 : ((k + 1) * W + 1) * 4 ^ (k + 1) = 4 * ((k * W + 1) * 4 ^ k) + 4 * (W * 4 ^ k) := by
      rw [Nat.pow_succ]
      generalize 4 ^ k = P
      grind
    rw [a4]
    generalize rl q r * ((k * W + 1) * 4 ^ k) = x at *
    generalize (k * W + 1) * 4 ^ k = y at *
    generalize W * 4 ^ k = z at *
    omega
theorem Bd1.ini {W : Nat} : Bd1 q W 0 (w0 N) := by
  intro S
  unfold w0
  split
  · exact ⟨fun _ => by decide, by simp⟩
  · exact ⟨fun _ => by decide, by simp⟩
end L1
