/-! L3: equations: alternating products of rows of whole numbers -/
section SUMI
/-- sums of whole numbers -/
def sI (f : Nat → Int) : Nat → Int
  | 0 => 0
  | n + 1 => sI f n + f n
variable {f g : Nat → Int}
theorem sI_s (f : Nat → Int) (n : Nat) : sI f (n + 1) = sI f n + f n := rfl
theorem sI_congr : ∀ N, (∀ i, i < N → f i = g i) → sI f N = sI g N
  | 0, _ => rfl
  | N + 1, h => by rw [sI_s, sI_s, sI_congr N (fun i hi => h i (by omega)), h N (by omega)]
theorem sI_add : ∀ N, sI (fun i => f i + g i) N = sI f N + sI g N
  | 0 => rfl
  | N + 1 => by rw [sI_s, sI_s, sI_s, sI_add N]; omega
theorem sI_mul (c : Int) : ∀ N, sI (fun i => c * f i) N = c * sI f N
  | 0 => (Int.mul_zero c).symm
  | N + 1 => by rw [sI_s, sI_s, sI_mul c N, Int.mul_add]
theorem sI_zero : ∀ N, (∀ i, i < N → f i = 0) → sI f N = 0
  | 0, _ => rfl
  | N + 1, h => by rw [sI_s, sI_zero N (fun i hi => h i (by omega)), h N (by omega)]; rfl
theorem sI_swap (F : Nat → Nat → Int) (b : Nat) : ∀ a, sI (fun i => sI (F i) b) a = sI (fun j => sI (fun i => F i j) a) b
  | 0 => (sI_zero b (fun _ _ => rfl)).symm
  | a + 1 => by
    rw [sI_s, sI_swap F b a, ← sI_add]
    exact sI_congr b (fun j _ => rfl)
theorem sI_pick {k : Nat} : ∀ N, k < N → sI f N = f k + sI (fun i => if i = k then 0 else f i) N
  | 0, h => absurd h (Nat.not_lt_zero k)
  | N + 1, h => by
    rw [sI_s, sI_s]
    by_cases e : N = k
    · subst e
      rw [if_pos rfl, sI_congr (f := fun i => if i = N then 0 else f i) (g := f) N (fun i hi => if_neg (by omega))]
      omega
    · rw [if_neg e, sI_pick (k := k) N (by omega)]
      omega
theorem sI_one {k : Nat} (N : Nat) (hk : k < N) (h : ∀ i, i < N → i ≠ k → f i = 0) : sI f N = f k := by
  rw [sI_pick N hk, sI_zero N (fun i hi => by
    by_cases e : i = k
    · rw [if_pos e]
    · rw [if_neg e]; exact h i hi e), Int.add_zero]
theorem sI_neg (N : Nat) : sI (fun i => -f i) N = -sI f N := by
  rw [sI_congr (g := fun i => -1 * f i) N (fun i _ => by omega), sI_mul]; omega
theorem sI_sub (N : Nat) : sI (fun i => f i - g i) N = sI f N - sI g N := by
  rw [sI_congr (g := fun i => f i + -g i) N (fun i _ => by omega), sI_add, sI_neg]; omega
end SUMI
section SGN
variable {S : Nat → Bool} {i j : Nat}
/-- a set less one, and with one more -/
def mns (S : Nat → Bool) (j : Nat) : Nat → Bool := fun i => S i && decide (i ≠ j)
def pls (S : Nat → Bool) (j : Nat) : Nat → Bool := fun i => S i || decide (i = j)
theorem mns_pls (h : S j = false) : mns (pls S j) j = S := funext fun i => by
  unfold mns pls
  by_cases e : i = j
  · rw [e, h]; simp
  · simp [e]
theorem mns_pls2 (h : i ≠ j) : mns (pls S j) i = pls (mns S i) j := funext fun k => by
  unfold mns pls
  by_cases e : k = j
  · rw [e]; simp [Ne.symm h]
  · by_cases e2 : k = i
    · rw [e2]; simp [h]
    · simp [e, e2]
theorem mns_mns : mns (mns S i) j = mns (mns S j) i := funext fun k => by
  unfold mns
  cases S k <;> simp [Bool.and_comm]
/-- the sign of a place in a set -/
def sgp (S : Nat → Bool) (j : Nat) : Nat → Int
  | 0 => 1
  | i + 1 => sgp S j i * (if (decide (j < i) && S i) = true then -1 else 1)
theorem sgp_sq : ∀ m, sgp S j m * sgp S j m = 1
  | 0 => rfl
  | m + 1 => by
    show (sgp S j m * _) * (sgp S j m * _) = 1
    have h := sgp_sq m
    split
    · rw [Int.mul_neg, Int.mul_one, Int.neg_mul_neg]; exact h
    · rw [Int.mul_one]; exact h
theorem sgp_gt (hij : i < j) (hj : S j = true) : ∀ m, sgp (mns S j) i m = if j < m then -sgp S i m else sgp S i m
  | 0 => by rw [if_neg (Nat.not_lt_zero j)]; rfl
  | m + 1 => by
    show sgp (mns S j) i m * (if (decide (i < m) && mns S j m) = true then -1 else 1) = if j < m + 1 then -(sgp S i m * (if (decide (i < m) && S m) = true then -1 else 1)) else sgp S i m * (if (decide (i < m) && S m) = true then -1 else 1)
    rw [sgp_gt hij hj m]
    by_cases e : m = j
    · subst e
      rw [if_neg (Nat.lt_irrefl m), if_pos (Nat.lt_succ_self m)]
      have : mns S m m = false := by unfold mns; simp
      rw [this, Bool.and_false, if_neg Bool.false_ne_true, hj, decide_eq_true hij, Bool.true_and, if_pos rfl]
      omega
    · have : mns S j m = S m := by unfold mns; simp [e]
      rw [this]
      by_cases c : j < m
      · rw [if_pos c, if_pos (show j < m + 1 by omega), Int.neg_mul]
      · rw [if_neg c, if_neg (show ¬ j < m + 1 by omega)]
theorem sgp_lt (hij : j ≤ i) : ∀ m, sgp (mns S j) i m = sgp S i m
  | 0 => rfl
  | m + 1 => by
    show sgp (mns S j) i m * (if (decide (i < m) && mns S j m) = true then -1 else 1) = sgp S i m * (if (decide (i < m) && S m) = true then -1 else 1)
    rw [sgp_lt hij m]
    by_cases c : i < m
    · have : mns S j m = S m := by
        unfold mns
        rw [decide_eq_true (show m ≠ j by omega), Bool.and_true]
      rw [this]
    · rw [decide_eq_false c, Bool.false_and, Bool.false_and]
/-- two places, taken the other way round -/
theorem sgp_anti {N : Nat} (hi : i < N) (hj : j < N) (hij : i ≠ j) (si : S i = true) (sj : S j = true) : sgp S j N * sgp (mns S j) i N = -(sgp S i N * sgp (mns S i) j N) := by
  rcases Nat.lt_or_gt_of_ne hij with h | h
  · rw [sgp_gt h sj, if_pos hj, sgp_lt (Nat.le_of_lt h), Int.mul_neg, Int.mul_comm]
  · rw [sgp_lt (Nat.le_of_lt h), sgp_gt h si, if_pos hi, Int.mul_neg, Int.neg_neg, Int.mul_comm]
end SGN
section WDG
variable {N : Nat} {w u : (Nat → Bool) → Int} {a b r : Nat → Int} {S C : Nat → Bool} {t : Int}
/-- one row more -/
def wdg (N : Nat) (w : (Nat → Bool) → Int) (r : Nat → Int) (S : Nat → Bool) : Int := sI (fun j => if S j = true then sgp S j N * (r j * w (mns S j)) else 0) N
theorem wdg_congr (h : ∀ j, j < N → a j = b j) : wdg N w a S = wdg N w b S := sI_congr N (fun j hj => by rw [h j hj])
theorem wdg_lin {x y : Int} : wdg N w (fun j => x * a j + y * b j) S = x * wdg N w a S + y * wdg N w b S := by
  unfold wdg
  rw [← sI_mul, ← sI_mul, ← sI_add]
  refine sI_congr N (fun j _ => ?_)
  by_cases e : S j = true
  · rw [if_pos e, if_pos e, if_pos e]; grind
  · rw [if_neg e, if_neg e, if_neg e]; omega
theorem wdg_lin2 {x y : Int} : wdg N (fun S => x * w S + y * u S) r S = x * wdg N w r S + y * wdg N u r S := by
  unfold wdg
  rw [← sI_mul, ← sI_mul, ← sI_add]
  refine sI_congr N (fun j _ => ?_)
  by_cases e : S j = true
  · rw [if_pos e, if_pos e, if_pos e]; grind
  · rw [if_neg e, if_neg e, if_neg e]; omega
theorem wdg_mul {x : Int} : wdg N w (fun j => x * a j) S = x * wdg N w a S := by
  have := wdg_lin (N := N) (w := w) (a := a) (b := a) (S := S) (x := x) (y := 0)
  rw [wdg_congr (b := fun j => x * a j) (fun j _ => by omega)] at this
  omega
theorem wdg_z (h : ∀ S, w S = 0) : wdg N w r S = 0 := sI_zero N (fun j _ => by
  split
  · rw [h, Int.mul_zero, Int.mul_zero]
  · rfl)
theorem wdg_sum {F : Nat → Nat → Int} : ∀ M, wdg N w (fun j => sI (fun c => F c j) M) S = sI (fun c => wdg N w (F c) S) M
  | 0 => sI_zero N (fun j _ => by
    split
    · show _ * (0 * _) = (0 : Int)
      rw [Int.zero_mul, Int.mul_zero]
    · rfl)
  | M + 1 => by
    rw [sI_s, ← wdg_sum M]
    have := wdg_lin (N := N) (w := w) (a := fun j => sI (fun c => F c j) M) (b := F M) (S := S) (x := 1) (y := 1)
    rw [Int.one_mul, Int.one_mul] at this
    rw [← this]
    exact wdg_congr (fun j _ => by rw [sI_s, Int.one_mul, Int.one_mul])
/-- two rows, the other way round -/
theorem wdg_anti : wdg N (wdg N w a) b S = -wdg N (wdg N w b) a S := by
  obtain ⟨F, eF⟩ : ∃ F : Nat → Nat → Int, F = fun j i => if S j = true ∧ S i = true ∧ i ≠ j then sgp S j N * (sgp (mns S j) i N * w (mns (mns S j) i)) else 0 := ⟨_, rfl⟩
  have e : ∀ a b : Nat → Int, wdg N (wdg N w a) b S = sI (fun j => sI (fun i => b j * (a i * F j i)) N) N := fun a b => by
    unfold wdg
    refine sI_congr N (fun j hj => ?_)
    by_cases sj : S j = true
    · rw [if_pos sj, ← sI_mul, ← sI_mul]
      refine sI_congr N (fun i hi => ?_)
      rw [eF]
      simp only
      by_cases c : S i = true ∧ i ≠ j
      · have : mns S j i = true := by unfold mns; rw [c.1, decide_eq_true c.2]; rfl
        rw [if_pos this, if_pos ⟨sj, c⟩]; grind
      · have : ¬ mns S j i = true := fun z => c (by unfold mns at z; rw [Bool.and_eq_true, decide_eq_true_eq] at z; exact z)
        rw [if_neg this, if_neg (fun z => c z.2)]; grind
    · rw [if_neg sj]
      exact (sI_zero N (fun i _ => by
        rw [eF]
        simp only
        rw [if_neg (fun z => sj z.1), Int.mul_zero, Int.mul_zero])).symm
  have an : ∀ j i, j < N → i < N → F j i = -F i j := fun j i hj hi => by
    rw [eF]
    simp only
    by_cases c : S j = true ∧ S i = true ∧ i ≠ j
    · rw [if_pos c, if_pos ⟨c.2.1, c.1, Ne.symm c.2.2⟩, ← Int.mul_assoc, ← Int.mul_assoc, sgp_anti hi hj c.2.2 c.2.1 c.1, mns_mns, Int.neg_mul]
    · rw [if_neg c, if_neg (fun z => c ⟨z.2.1, z.1, Ne.symm z.2.2⟩)]; rfl
  rw [e a b, e b a, sI_swap, ← sI_neg]
  refine sI_congr N (fun j hj => ?_)
  rw [← sI_neg]
  refine sI_congr N (fun i hi => ?_)
  rw [an i j hi hj]; grind
theorem wdg_self : wdg N (wdg N w a) a S = 0 := by
  have := wdg_anti (N := N) (w := w) (a := a) (b := a) (S := S)
  omega
/-- how a row is told by the places of C -/
def jac (N : Nat) (w : (Nat → Bool) → Int) (C : Nat → Bool) (t : Int) (c j : Nat) : Int := if C j = true then (if c = j then t * w C else 0) else -(t * (sgp (pls C j) j N * (sgp (pls C j) c N * w (mns (pls C j) c))))
/-- what a row is beyond that -/
def rho (N : Nat) (w : (Nat → Bool) → Int) (C : Nat → Bool) (t : Int) (v : Nat → Int) (j : Nat) : Int := t * w C * v j - sI (fun c => if C c = true then v c * jac N w C t c j else 0) N
theorem rho_in {v : Nat → Int} {j : Nat} (hj : j < N) (cj : C j = true) : rho N w C t v j = 0 := by
  unfold rho
  rw [sI_one (k := j) N hj (fun i _ hi => by
    split
    · unfold jac
      rw [if_pos cj, if_neg hi, Int.mul_zero]
    · rfl), if_pos cj]
  unfold jac
  rw [if_pos cj, if_pos rfl, Int.mul_comm]
  omega
theorem rho_out {v : Nat → Int} {j : Nat} (hj : j < N) (cj : C j = false) : rho N w C t v j = t * (sgp (pls C j) j N * wdg N w v (pls C j)) := by
  have pj : pls C j j = true := by unfold pls; simp
  unfold rho wdg
  rw [sI_pick (f := fun i => if pls C j i = true then sgp (pls C j) i N * (v i * w (mns (pls C j) i)) else 0) N hj, if_pos pj, mns_pls cj]
  have sq := sgp_sq (S := pls C j) (j := j) N
  have e : sI (fun c => if C c = true then v c * jac N w C t c j else 0) N = -(t * (sgp (pls C j) j N * sI (fun i => if i = j then 0 else if pls C j i = true then sgp (pls C j) i N * (v i * w (mns (pls C j) i)) else 0) N)) := by
    rw [← sI_mul, ← sI_mul, ← sI_neg]
    refine sI_congr N (fun i _ => ?_)
    by_cases e : i = j
    · rw [if_pos e, e, cj, if_neg Bool.false_ne_true, Int.mul_zero, Int.mul_zero]; rfl
    · rw [if_neg e]
      have : pls C j i = C i := by unfold pls; simp [e]
      rw [this]
      by_cases c : C i = true
      · rw [if_pos c, if_pos c]
        unfold jac
        rw [if_neg (by rw [cj]; exact Bool.false_ne_true)]; grind
      · rw [if_neg c, if_neg c, Int.mul_zero, Int.mul_zero]; rfl
  rw [e]
  generalize sI (fun i => if i = j then 0 else if pls C j i = true then sgp (pls C j) i N * (v i * w (mns (pls C j) i)) else 0) N = X
  generalize sgp (pls C j) j N = s at *
  generalize w C = z
  grind
theorem rho_zero {v : Nat → Int} (h : ∀ S, wdg N w v S = 0) {j : Nat} (hj : j < N) : rho N w C t v j = 0 := by
  cases cj : C j
  · rw [rho_out hj cj, h, Int.mul_zero, Int.mul_zero]
  · exact rho_in hj cj
/-- rows so far: w their product, C the places that tell, t a sign -/
def Cra (N : Nat) (w : (Nat → Bool) → Int) (C : Nat → Bool) (t : Int) : Prop := t * t = 1 ∧ t * w C ≠ 0 ∧ ∀ c, c < N → C c = true → ∀ S, wdg N w (jac N w C t c) S = 0
theorem sI_pls {G : Nat → Int} {c : Nat} (hc : c < N) (cc : C c = false) : sI (fun i => if pls C c i = true then G i else 0) N = G c + sI (fun i => if C i = true then G i else 0) N := by
  rw [sI_pick N hc, if_pos (by unfold pls; simp)]
  congr 1
  refine sI_congr N (fun i _ => ?_)
  by_cases e : i = c
  · rw [if_pos e, e, cc, if_neg Bool.false_ne_true]
  · rw [if_neg e]
    have : pls C c i = C i := by unfold pls; simp [e]
    rw [this]
theorem rho_lin {x y : Int} {j : Nat} : rho N w C t (fun i => x * a i + y * b i) j = x * rho N w C t a j + y * rho N w C t b j := by
  unfold rho
  have e : sI (fun c => if C c = true then (x * a c + y * b c) * jac N w C t c j else 0) N = x * sI (fun c => if C c = true then a c * jac N w C t c j else 0) N + y * sI (fun c => if C c = true then b c * jac N w C t c j else 0) N := by
    rw [← sI_mul, ← sI_mul, ← sI_add]
    refine sI_congr N (fun c _ => ?_)
    by_cases e : C c = true
    · rw [if_pos e, if_pos e, if_pos e]; grind
    · rw [if_neg e, if_neg e, if_neg e]; omega
  rw [e]
  generalize sI (fun c => if C c = true then a c * jac N w C t c j else 0) N = X
  generalize sI (fun c => if C c = true then b c * jac N w C t c j else 0) N = Y
  grind
theorem rho_wdg {v : Nat → Int} (q : Cra N w C t) (h : ∀ S, wdg N w v S = 0) (r : Nat → Int) (S : Nat → Bool) : wdg N (wdg N w r) v S = 0 := by
  rw [wdg_anti, wdg_z h]; rfl
/-- the step: a new row tells by place c -/
theorem Cra.step {R : Nat → Int} {c : Nat} (q : Cra N w C t) (hc : c < N) (cc : C c = false) (hp : rho N w C t R c ≠ 0) :
    t * sgp (pls C c) c N * wdg N w R (pls C c) = rho N w C t R c ∧ (∀ j, j < N → jac N (wdg N w R) (pls C c) (t * sgp (pls C c) c N) c j = rho N w C t R j) ∧ (∀ i j, i < N → C i = true → j < N → t * w C * jac N (wdg N w R) (pls C c) (t * sgp (pls C c) c N) i j = rho N w C t R c * jac N w C t i j - jac N w C t i c * rho N w C t R j) ∧ Cra N (wdg N w R) (pls C c) (t * sgp (pls C c) c N) := by
  obtain ⟨tt, dne, jz⟩ := q
  have ep : t * sgp (pls C c) c N * wdg N w R (pls C c) = rho N w C t R c := by rw [rho_out hc cc, Int.mul_assoc]
  obtain ⟨p, epp⟩ : ∃ p, p = rho N w C t R c := ⟨_, rfl⟩
  obtain ⟨D, eD⟩ : ∃ D, D = t * w C := ⟨_, rfl⟩
  obtain ⟨t', et'⟩ : ∃ t', t' = t * sgp (pls C c) c N := ⟨_, rfl⟩
  rw [← et', ← epp] at ep
  rw [← epp] at hp
  rw [← eD] at dne
  have q : Cra N w C t := ⟨tt, by rw [← eD]; exact dne, jz⟩
  rw [← et', ← epp, ← eD]
  have tt' : t' * t' = 1 := by
    have := sgp_sq (S := pls C c) (j := c) N
    rw [et']
    generalize sgp (pls C c) c N = s at *
    grind
  -- what follows from the new rows
  have zJ : ∀ i, i < N → C i = true → ∀ S, wdg N (wdg N w R) (jac N w C t i) S = 0 := fun i hi ci S => rho_wdg q (jz i hi ci) R S
  have zK : ∀ S, wdg N (wdg N w R) (rho N w C t R) S = 0 := fun S => by
    have e : wdg N (wdg N w R) (rho N w C t R) S = wdg N (wdg N w R) (fun j => (t * w C) * R j + (-1) * sI (fun c' => if C c' = true then R c' * jac N w C t c' j else 0) N) S := wdg_congr (fun j _ => by unfold rho; omega)
    rw [e, wdg_lin, wdg_self, Int.mul_zero]
    have e2 : wdg N (wdg N w R) (fun j => sI (fun c' => if C c' = true then R c' * jac N w C t c' j else 0) N) S = 0 := by
      rw [wdg_sum (F := fun c' j => if C c' = true then R c' * jac N w C t c' j else 0) N]
      refine sI_zero N (fun i hi => ?_)
      by_cases ci : C i = true
      · rw [wdg_congr (b := fun j => R i * jac N w C t i j) (fun j _ => by rw [if_pos ci]), wdg_mul, zJ i hi ci, Int.mul_zero]
      · rw [wdg_congr (b := fun j => 0 * R j) (fun j _ => by rw [if_neg ci, Int.zero_mul]), wdg_mul, Int.zero_mul]
    rw [e2]; rfl
  have kin : ∀ j, j < N → C j = true → rho N w C t R j = 0 := fun j hj cj => rho_in hj cj
  -- the new place
  have hb : ∀ j, j < N → jac N (wdg N w R) (pls C c) t' c j = rho N w C t R j := fun j hj => by
    obtain ⟨kv, ekv⟩ : ∃ kv : Nat → Int, kv = rho N w C t R := ⟨_, rfl⟩
    rw [← ekv] at zK kin epp ⊢
    have z := rho_zero (C := pls C c) (t := t') zK hj
    unfold rho at z
    rw [show t' * wdg N w R (pls C c) = p from ep, sI_pls (G := fun i => kv i * jac N (wdg N w R) (pls C c) t' i j) hc cc, sI_zero N (fun i hi => by
      split
      · next ci => rw [kin i hi ci, Int.zero_mul]
      · rfl), ← epp] at z
    have z2 : p * (jac N (wdg N w R) (pls C c) t' c j - kv j) = 0 := by
      rw [Int.mul_sub]
      omega
    rcases Int.mul_eq_zero.mp z2 with z3 | z3
    · exact absurd z3 hp
    · omega
  have hcj : ∀ i j, i < N → C i = true → j < N → D * jac N (wdg N w R) (pls C c) t' i j = p * jac N w C t i j - jac N w C t i c * rho N w C t R j := fun i j hi ci hj => by
    have zV : ∀ S, wdg N (wdg N w R) (fun j => p * jac N w C t i j + (-jac N w C t i c) * rho N w C t R j) S = 0 := fun S => by
      rw [wdg_lin, zJ i hi ci, zK, Int.mul_zero, Int.mul_zero]; rfl
    have z := rho_zero (C := pls C c) (t := t') zV hj
    obtain ⟨V, eV⟩ : ∃ V : Nat → Int, V = fun j => p * jac N w C t i j + (-jac N w C t i c) * rho N w C t R j := ⟨_, rfl⟩
    rw [← eV] at z
    have Vc : V c = 0 := by
      rw [eV]
      show p * jac N w C t i c + (-jac N w C t i c) * rho N w C t R c = 0
      rw [← epp, Int.neg_mul, Int.mul_comm p]; omega
    have Vi : ∀ k, k < N → C k = true → V k = if k = i then p * D else 0 := fun k hk ck => by
      rw [eV]
      show p * jac N w C t i k + (-jac N w C t i c) * rho N w C t R k = _
      rw [kin k hk ck, Int.mul_zero, Int.add_zero]
      unfold jac
      rw [if_pos ck, ← eD]
      by_cases e : k = i
      · rw [if_pos e, if_pos e.symm]
      · rw [if_neg e, if_neg (Ne.symm e), Int.mul_zero]
    unfold rho at z
    rw [show t' * wdg N w R (pls C c) = p from ep, sI_pls (G := fun k => V k * jac N (wdg N w R) (pls C c) t' k j) hc cc, Vc, Int.zero_mul, Int.zero_add, sI_one (k := i) N hi (fun k hk hki => by
      split
      · next ck => rw [Vi k hk ck, if_neg hki, Int.zero_mul]
      · rfl), if_pos ci, Vi i hi ci, if_pos rfl] at z
    have z2 : p * (D * jac N (wdg N w R) (pls C c) t' i j - V j) = 0 := by
      rw [Int.mul_sub, ← Int.mul_assoc]; omega
    rcases Int.mul_eq_zero.mp z2 with z3 | z3
    · exact absurd z3 hp
    · have : V j = p * jac N w C t i j - jac N w C t i c * rho N w C t R j := by
        rw [eV]
        show p * jac N w C t i j + (-jac N w C t i c) * rho N w C t R j = _
        rw [Int.neg_mul]; omega
      omega
  refine ⟨ep, hb, hcj, tt', by rw [ep]; exact hp, fun i hi ci S => ?_⟩
  by_cases e : i = c
  · subst e
    rw [wdg_congr (b := rho N w C t R) hb]
    exact zK S
  · have ci' : C i = true := by unfold pls at ci; simpa [e] using ci
    have z : D * wdg N (wdg N w R) (jac N (wdg N w R) (pls C c) t' i) S = 0 := by
      rw [← wdg_mul, wdg_congr (b := fun j => p * jac N w C t i j + (-jac N w C t i c) * rho N w C t R j) (fun j hj => by rw [hcj i j hi ci' hj, Int.neg_mul]; omega), wdg_lin, zJ i hi ci', zK, Int.mul_zero, Int.mul_zero]; rfl
    rcases Int.mul_eq_zero.mp z with z3 | z3
    · exact absurd z3 dne
    · exact z3
/-- any row, before and behind the step -/
theorem Cra.row {R v : Nat → Int} {c j : Nat} (q : Cra N w C t) (hc : c < N) (cc : C c = false) (hp : rho N w C t R c ≠ 0) (hj : j < N) :
    t * w C * rho N (wdg N w R) (pls C c) (t * sgp (pls C c) c N) v j = rho N w C t R c * rho N w C t v j - rho N w C t v c * rho N w C t R j := by
  obtain ⟨s1, s2, s3, -⟩ := q.step hc cc hp
  obtain ⟨t', et'⟩ : ∃ t', t' = t * sgp (pls C c) c N := ⟨_, rfl⟩
  rw [← et'] at s1 s2 s3 ⊢
  have e1 : rho N (wdg N w R) (pls C c) t' v j = rho N w C t R c * v j - (v c * rho N w C t R j + sI (fun i => if C i = true then v i * jac N (wdg N w R) (pls C c) t' i j else 0) N) := by
    show t' * wdg N w R (pls C c) * v j - sI (fun i => if pls C c i = true then v i * jac N (wdg N w R) (pls C c) t' i j else 0) N = _
    rw [s1, sI_pls (G := fun i => v i * jac N (wdg N w R) (pls C c) t' i j) hc cc, s2 j hj]
  have e2 : t * w C * sI (fun i => if C i = true then v i * jac N (wdg N w R) (pls C c) t' i j else 0) N = rho N w C t R c * sI (fun i => if C i = true then v i * jac N w C t i j else 0) N + (-rho N w C t R j) * sI (fun i => if C i = true then v i * jac N w C t i c else 0) N := by
    rw [← sI_mul, ← sI_mul, ← sI_mul, ← sI_add]
    refine sI_congr N (fun i hi => ?_)
    by_cases ci : C i = true
    · rw [if_pos ci, if_pos ci, if_pos ci]
      have := s3 i j hi ci hj
      generalize jac N (wdg N w R) (pls C c) t' i j = X at *
      grind
    · rw [if_neg ci, if_neg ci, if_neg ci]; omega
  have f1 : rho N w C t v j = t * w C * v j - sI (fun i => if C i = true then v i * jac N w C t i j else 0) N := rfl
  have f2 : rho N w C t v c = t * w C * v c - sI (fun i => if C i = true then v i * jac N w C t i c else 0) N := rfl
  rw [e1, f1, f2, Int.mul_sub, Int.mul_add, e2]
  generalize sI (fun i => if C i = true then v i * jac N w C t i j else 0) N = X
  generalize sI (fun i => if C i = true then v i * jac N w C t i c else 0) N = Y
  generalize rho N w C t R c = p
  generalize rho N w C t R j = k
  generalize t * w C = D
  grind
/-- nothing so far -/
def emS (N : Nat) (S : Nat → Bool) : Bool := match N with
  | 0 => true
  | n + 1 => emS n S && !S n
theorem emS_iff : ∀ {N : Nat} {S : Nat → Bool}, emS N S = true ↔ ∀ i, i < N → S i = false
  | 0, _ => ⟨fun _ i hi => absurd hi (Nat.not_lt_zero i), fun _ => rfl⟩
  | n + 1, S => by
    show (emS n S && !S n) = true ↔ _
    rw [Bool.and_eq_true, emS_iff (N := n), Bool.not_eq_true']
    constructor
    · rintro ⟨h1, h2⟩ i hi
      by_cases e : i = n
      · rw [e]; exact h2
      · exact h1 i (by omega)
    · intro h
      exact ⟨fun i hi => h i (by omega), h n (by omega)⟩
def w0 (N : Nat) (S : Nat → Bool) : Int := if emS N S = true then 1 else 0
theorem Cra.ini : Cra N (w0 N) (fun _ => false) 1 := by
  have e : w0 N (fun _ => false) = 1 := by unfold w0; rw [if_pos (emS_iff.mpr (fun _ _ => rfl))]
  exact ⟨rfl, by rw [e]; decide, fun c _ h => absurd h Bool.false_ne_true⟩
theorem rho_ini {v : Nat → Int} {j : Nat} : rho N (w0 N) (fun _ => false) 1 v j = v j := by
  have e : w0 N (fun _ => false) = 1 := by unfold w0; rw [if_pos (emS_iff.mpr (fun _ _ => rfl))]
  unfold rho
  rw [e, sI_zero N (fun i _ => by rw [if_neg Bool.false_ne_true])]
  omega
end WDG
