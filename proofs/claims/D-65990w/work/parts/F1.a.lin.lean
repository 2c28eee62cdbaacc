/-! L3: equations, the plain law: rows that tell, and what solves them -/
section DOT
variable {N q m : Nat} {w : (Nat → Bool) → Int} {C : Nat → Bool} {t s s' : Int} {r r' v x x' X X' dr : Nat → Int} {c k : Nat} {A : (Nat → Int) → Prop} {E : (Nat → Int) → Int → Prop}
/-- a row by numbers -/
def dot (N : Nat) (r x : Nat → Int) : Int := sI (fun j => r j * x j) N
theorem dot_congr (h : ∀ j, j < N → r j = r' j) (h2 : ∀ j, j < N → x j = x' j) : dot N r x = dot N r' x' := sI_congr N (fun j hj => by rw [h j hj, h2 j hj])
theorem dot_mul {a : Int} : dot N (fun j => a * r j) x = a * dot N r x := by
  unfold dot
  rw [← sI_mul]
  exact sI_congr N (fun j _ => Int.mul_assoc _ _ _)
theorem dot_lin {a b : Int} : dot N (fun j => a * r j + b * r' j) x = a * dot N r x + b * dot N r' x := by
  unfold dot
  rw [← sI_mul, ← sI_mul, ← sI_add]
  exact sI_congr N (fun j _ => by rw [Int.add_mul, Int.mul_assoc, Int.mul_assoc])
theorem dot_linx {a b : Int} : dot N r (fun j => a * x j + b * x' j) = a * dot N r x + b * dot N r x' := by
  unfold dot
  rw [← sI_mul, ← sI_mul, ← sI_add]
  exact sI_congr N (fun j _ => by grind)
theorem dot_sum {F : Nat → Nat → Int} (M : Nat) : dot N (fun j => sI (fun c => F c j) M) x = sI (fun c => dot N (F c) x) M := by
  unfold dot
  rw [sI_congr N (g := fun j => sI (fun c => F c j * x j) M) (fun j _ => by rw [Int.mul_comm, ← sI_mul]; exact sI_congr M (fun c _ => Int.mul_comm _ _)), sI_swap]
theorem rho_dot : dot N (rho N w C t v) x = t * w C * dot N v x - sI (fun c => if C c = true then v c * dot N (jac N w C t c) x else 0) N := by
  have e1 : dot N (rho N w C t v) x = dot N (fun j => (t * w C) * v j + (-1) * sI (fun c => if C c = true then v c * jac N w C t c j else 0) N) x := dot_congr (fun j _ => by unfold rho; omega) (fun _ _ => rfl)
  rw [e1, dot_lin, dot_sum (F := fun c j => if C c = true then v c * jac N w C t c j else 0) N, sI_congr N (g := fun c => if C c = true then v c * dot N (jac N w C t c) x else 0) (fun c _ => by
    by_cases e : C c = true
    · rw [if_pos e, ← dot_mul]; exact dot_congr (fun j _ => by rw [if_pos e]) (fun _ _ => rfl)
    · rw [if_neg e]; unfold dot; exact sI_zero N (fun j _ => by show (if C c = true then _ else _) * _ = (0 : Int); rw [if_neg e, Int.zero_mul]))]
  omega
/-- what is across all that tells is across what follows -/
theorem Cra.orth (qq : Cra N w C t) (hz : ∀ S, wdg N w v S = 0) (hx : ∀ c, c < N → C c = true → dot N (jac N w C t c) x = 0) : dot N v x = 0 := by
  have z : dot N (rho N w C t v) x = 0 := sI_zero N (fun j hj => by rw [rho_zero hz hj, Int.zero_mul])
  rw [rho_dot, sI_zero N (fun c hc => by
    split
    · next cc => rw [hx c hc cc, Int.mul_zero]
    · rfl)] at z
  rcases Int.mul_eq_zero.mp (show t * w C * dot N v x = 0 by omega) with z | z
  · exact absurd z qq.2.1
  · exact z
theorem Cra.wdg0 (qq : Cra N w C t) (h : ∀ j, j < N → rho N w C t v j = 0) (S : Nat → Bool) : wdg N w v S = 0 := by
  have e : wdg N w (fun j => (t * w C) * v j) S = wdg N w (fun j => sI (fun c => if C c = true then v c * jac N w C t c j else 0) N) S := wdg_congr (fun j hj => by have := h j hj; unfold rho at this; omega)
  rw [wdg_mul, wdg_sum (F := fun c j => if C c = true then v c * jac N w C t c j else 0) N, sI_zero N (fun c hc => by
    by_cases cc : C c = true
    · rw [wdg_congr (b := fun j => v c * jac N w C t c j) (fun j _ => by rw [if_pos cc]), wdg_mul, qq.2.2 c hc cc, Int.mul_zero]
    · rw [wdg_congr (b := fun j => 0 * v j) (fun j _ => by rw [if_neg cc, Int.zero_mul]), wdg_mul, Int.zero_mul])] at e
  rcases Int.mul_eq_zero.mp e with z | z
  · exact absurd z qq.2.1
  · exact z
/-- numbers across all rows: one place that does not tell, and what follows from it -/
def kx (N : Nat) (w : (Nat → Bool) → Int) (C : Nat → Bool) (t : Int) (c j : Nat) : Int := if j = c then t * w C else if C j = true then -jac N w C t j c else 0
theorem kx_dot (hc : c < N) (cc : C c = false) : dot N r (kx N w C t c) = rho N w C t r c := by
  unfold dot rho
  rw [sI_pick (f := fun j => r j * kx N w C t c j) N hc]
  have e1 : kx N w C t c c = t * w C := if_pos rfl
  have e2 : sI (fun i => if i = c then 0 else r i * kx N w C t c i) N = -sI (fun i => if C i = true then r i * jac N w C t i c else 0) N := by
    rw [← sI_neg]
    refine sI_congr N (fun i _ => ?_)
    by_cases e : i = c
    · rw [if_pos e, e, cc, if_neg Bool.false_ne_true]; rfl
    · rw [if_neg e]
      unfold kx
      rw [if_neg e]
      by_cases ci : C i = true
      · rw [if_pos ci, if_pos ci, Int.mul_neg]
      · rw [if_neg ci, if_neg ci, Int.mul_zero]; rfl
  rw [e2, e1, Int.mul_comm (r c)]
  omega
/-- what is across all of A is across all that tells -/
def Spn (N : Nat) (w : (Nat → Bool) → Int) (C : Nat → Bool) (t : Int) (A : (Nat → Int) → Prop) : Prop := ∀ x, (∀ v, A v → dot N v x = 0) → ∀ c, c < N → C c = true → dot N (jac N w C t c) x = 0
theorem Spn.ini : Spn N w (fun _ => false) t A := fun _ _ _ _ h => absurd h Bool.false_ne_true
theorem Spn.step {R : Nat → Int} (qq : Cra N w C t) (p : Spn N w C t A) (hR : A R) (hc : c < N) (cc : C c = false) (hp : rho N w C t R c ≠ 0) : Spn N (wdg N w R) (pls C c) (t * sgp (pls C c) c N) A := by
  intro x hx i hi ci
  obtain ⟨s1, s2, s3, -⟩ := qq.step hc cc hp
  have zr : dot N (rho N w C t R) x = 0 := by
    rw [rho_dot, hx R hR, sI_zero N (fun j hj => by
      split
      · next cj => rw [p x hx j hj cj, Int.mul_zero]
      · rfl)]
    omega
  by_cases e : i = c
  · subst e
    rw [dot_congr (r' := rho N w C t R) s2 (fun _ _ => rfl)]
    exact zr
  · have ci' : C i = true := by unfold pls at ci; simpa [e] using ci
    have z : t * w C * dot N (jac N (wdg N w R) (pls C c) (t * sgp (pls C c) c N) i) x = 0 := by
      rw [← dot_mul, dot_congr (r' := fun j => rho N w C t R c * jac N w C t i j + (-jac N w C t i c) * rho N w C t R j) (fun j hj => by rw [s3 i j hi ci' hj, Int.neg_mul]; omega) (fun _ _ => rfl), dot_lin, p x hx i hi ci', zr, Int.mul_zero, Int.mul_zero]; rfl
    rcases Int.mul_eq_zero.mp z with z3 | z3
    · exact absurd z3 qq.2.1
    · exact z3
theorem Spn.mono {A' : (Nat → Int) → Prop} (p : Spn N w C t A) (h : ∀ v, A v → A' v) : Spn N w C t A' := fun x hx c hc cc => p x (fun v hv => hx v (h v hv)) c hc cc
/-- numbers with a last one: what is less -/
def xs (q : Nat) (x : Nat → Int) (s : Int) (j : Nat) : Int := if j = q then -s else x j
/-- x / s solves the equations -/
def Hx (E : (Nat → Int) → Int → Prop) (x : Nat → Int) (s : Int) : Prop := ∀ a b, E a b → dot 24 a x = b * s
def Sat (E : (Nat → Int) → Int → Prop) : Prop := ∃ x s, s ≠ 0 ∧ Hx E x s
/-- an unknown that those ahead of it do not settle -/
def Fre (E : (Nat → Int) → Int → Prop) (k : Nat) : Prop := ∃ x, Hx E x 0 ∧ (∀ j, j < k → x j = 0) ∧ x k ≠ 0
/-- the solution: such unknowns are as drawn -/
def Sln (E : (Nat → Int) → Int → Prop) (m : Nat) (dr X : Nat → Int) (s : Int) : Prop := s ≠ 0 ∧ Hx E X s ∧ ∀ k, k < m → Fre E k → X k = dr k * s
theorem Sln.uniq (p : Sln E m dr X s) (p' : Sln E m dr X' s') : ∀ k, k < m → X k * s' = X' k * s := by
  have key : ∀ K, K ≤ m → ∀ k, k < K → X k * s' = X' k * s := by
    intro K
    induction K with
    | zero => intro _ k hk; omega
    | succ K ih =>
      intro hK k hk
      by_cases e : k = K
      · rw [e]
        rcases Classical.em (X K * s' = X' K * s) with z | z
        · exact z
        · have hf : Fre E K := by
            refine ⟨fun j => s' * X j + (-s) * X' j, fun a b hE => ?_, fun j hj => ?_, fun y => z ?_⟩
            · rw [dot_linx, p.2.1 a b hE, p'.2.1 a b hE]; grind
            · have := ih (by omega) j hj
              show s' * X j + (-s) * X' j = 0
              grind
            · have y' : s' * X K + (-s) * X' K = 0 := y
              grind
          rw [p.2.2 K (by omega) hf, p'.2.2 K (by omega) hf]; grind
      · exact ih (by omega) k (by omega)
  exact key m (Nat.le_refl m)
theorem sI_cut {f : Nat → Int} (h : ∀ j, q ≤ j → f j = 0) : ∀ k, sI f (q + k) = sI f q
  | 0 => rfl
  | k + 1 => by
    rw [show q + (k + 1) = (q + k) + 1 from rfl, sI_s, sI_cut h k, h (q + k) (by omega)]; omega
/-- rows with their right side as the last place stand for the equations, up to a factor -/
def RepE (q : Nat) (E : (Nat → Int) → Int → Prop) (A : (Nat → Int) → Prop) : Prop := (∀ a b, E a b → (∀ j, q ≤ j → a j = 0) ∧ ∃ v f, A v ∧ (∀ j, j < q → a j = f * v j) ∧ b = f * v q) ∧ ∀ v, A v → ∃ a b f, E a b ∧ f ≠ 0 ∧ (∀ j, j < q → a j = f * v j) ∧ b = f * v q
theorem dot_xs {a : Nat → Int} {b f : Int} (hq : q ≤ 24) (ha : ∀ j, q ≤ j → a j = 0) (h1 : ∀ j, j < q → a j = f * v j) (h2 : b = f * v q) : dot 24 a x - b * s = f * dot (q + 1) v (xs q x s) := by
  have e1 : dot 24 a x = dot q a x := by
    unfold dot
    obtain ⟨k, ek⟩ : ∃ k, 24 = q + k := ⟨24 - q, by omega⟩
    rw [ek]
    exact sI_cut (fun j hj => by rw [ha j hj, Int.zero_mul]) k
  have e2 : dot (q + 1) v (xs q x s) = dot q v x + v q * (-s) := by
    unfold dot
    rw [sI_s]
    congr 1
    · exact sI_congr q (fun j hj => by unfold xs; rw [if_neg (by omega)])
    · unfold xs; rw [if_pos rfl]
  rw [e1, e2, h2, dot_congr (r' := fun j => f * v j) (x' := x) h1 (fun _ _ => rfl), dot_mul]
  grind
theorem RepE.hx (R : RepE q E A) (hq : q ≤ 24) : Hx E x s ↔ ∀ v, A v → dot (q + 1) v (xs q x s) = 0 := by
  constructor
  · intro H v hv
    obtain ⟨a, b, f, hE, hf, h1, h2⟩ := R.2 v hv
    have := dot_xs (x := x) (s := s) hq (R.1 a b hE).1 h1 h2
    rw [H a b hE] at this
    rcases Int.mul_eq_zero.mp (show f * dot (q + 1) v (xs q x s) = 0 by omega) with z | z
    · exact absurd z hf
    · exact z
  · intro H a b hE
    obtain ⟨ha, v, f, hA, h1, h2⟩ := R.1 a b hE
    have := dot_xs (x := x) (s := s) hq ha h1 h2
    rw [H v hA, Int.mul_zero] at this
    omega
/-- all rows hold together -/
theorem sat_of (R : RepE q E A) (hq : q ≤ 24) (qq : Cra (q + 1) w C t) (cq : C q = false) (hz : ∀ v, A v → ∀ S, wdg (q + 1) w v S = 0) : Sat E := by
  refine ⟨kx (q + 1) w C t q, -(t * w C), fun z => qq.2.1 (by omega), (R.hx hq).mpr (fun v hv => ?_)⟩
  rw [dot_congr (r' := v) (x' := kx (q + 1) w C t q) (fun _ _ => rfl) (fun j hj => by
    unfold xs
    by_cases e : j = q
    · rw [if_pos e, e]; unfold kx; rw [if_pos rfl]; omega
    · rw [if_neg e]), kx_dot (by omega) cq]
  exact rho_zero (hz v hv) (by omega)
/-- a row that is nothing but what it makes -/
theorem not_sat (R : RepE q E A) (hq : q ≤ 24) (p : Spn (q + 1) w C t A) (hA : A v) (h0 : ∀ j, j < q → rho (q + 1) w C t v j = 0) (h1 : rho (q + 1) w C t v q ≠ 0) : ¬ Sat E := by
  rintro ⟨x, s, hs, H⟩
  have hx := (R.hx hq).mp H
  have z : dot (q + 1) (rho (q + 1) w C t v) (xs q x s) = 0 := by
    rw [rho_dot, hx v hA, sI_zero (q + 1) (fun j hj => by
      split
      · next cj => rw [p _ hx j hj cj, Int.mul_zero]
      · rfl)]
    omega
  unfold dot at z
  rw [sI_s, sI_zero q (fun j hj => by rw [h0 j hj, Int.zero_mul])] at z
  unfold xs at z
  rw [if_pos rfl] at z
  rcases Int.mul_eq_zero.mp (show rho (q + 1) w C t v q * (-s) = 0 by omega) with y | y
  · exact h1 y
  · exact hs (by omega)
/-- all is told by the rows that tell -/
theorem hx_iff (R : RepE q E A) (hq : q ≤ 24) (qq : Cra (q + 1) w C t) (p : Spn (q + 1) w C t A) (hz : ∀ v, A v → ∀ S, wdg (q + 1) w v S = 0) : Hx E x s ↔ ∀ c, c < q + 1 → C c = true → dot (q + 1) (jac (q + 1) w C t c) (xs q x s) = 0 :=
  ⟨fun H => p _ ((R.hx hq).mp H), fun H => (R.hx hq).mpr (fun v hv => qq.orth (hz v hv) H)⟩
theorem fre_of (R : RepE q E A) (hq : q ≤ 24) (qq : Cra (q + 1) w C t) (cq : C q = false) (hz : ∀ v, A v → ∀ S, wdg (q + 1) w v S = 0) (hk : k < q) (ck : C k = false) (h0 : ∀ i, i < k → C i = true → jac (q + 1) w C t i k = 0) : Fre E k := by
  refine ⟨kx (q + 1) w C t k, (R.hx hq).mpr (fun v hv => ?_), fun j hj => ?_, ?_⟩
  · rw [dot_congr (r' := v) (x' := kx (q + 1) w C t k) (fun _ _ => rfl) (fun j hj => by
      unfold xs
      by_cases e : j = q
      · rw [if_pos e, e]; unfold kx; rw [if_neg (by omega), cq, if_neg Bool.false_ne_true]; rfl
      · rw [if_neg e]), kx_dot (by omega) ck]
    exact rho_zero (hz v hv) (by omega)
  · unfold kx
    rw [if_neg (by omega)]
    by_cases cj : C j = true
    · rw [if_pos cj, h0 j hj cj]; rfl
    · rw [if_neg cj]
  · unfold kx
    rw [if_pos rfl]; exact qq.2.1
theorem jac_on (hk : C k = true) : jac N w C t k k = t * w C := by unfold jac; rw [if_pos hk, if_pos rfl]
theorem jac_off {j : Nat} (hj : C j = true) (e : k ≠ j) : jac N w C t k j = 0 := by unfold jac; rw [if_pos hj, if_neg e]
theorem not_fre (R : RepE q E A) (hq : q ≤ 24) (qq : Cra (q + 1) w C t) (p : Spn (q + 1) w C t A) (hk : k < q) (ck : C k = true) (h0 : ∀ j, k < j → j < q → C j = false → jac (q + 1) w C t k j = 0) : ¬ Fre E k := by
  rintro ⟨x, H, hx, xk⟩
  have z := p _ ((R.hx hq).mp H) k (by omega) ck
  unfold dot at z
  rw [sI_one (k := k) (q + 1) (by omega) (fun j hj e => by
    unfold xs
    by_cases e2 : j = q
    · rw [if_pos e2, Int.neg_zero, Int.mul_zero]
    · rw [if_neg e2]
      rcases Nat.lt_or_gt_of_ne e with e3 | e3
      · rw [hx j e3, Int.mul_zero]
      · cases cj : C j
        · rw [h0 j e3 (by omega) cj, Int.zero_mul]
        · rw [jac_off cj (by omega), Int.zero_mul])] at z
  rw [jac_on ck] at z
  unfold xs at z
  rw [if_neg (by omega)] at z
  rcases Int.mul_eq_zero.mp z with y | y
  · exact qq.2.1 y
  · exact xk y
end DOT
