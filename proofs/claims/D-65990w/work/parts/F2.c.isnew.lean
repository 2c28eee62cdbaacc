/-! L3: equations (desk): what is drawn comes to them -/
section ISNEW
variable {gv : Nat → Int} {B n d m k i : Nat} {h : AH} {E E' : (Nat → Int) → Int → Prop} {c x : Nat → Int} {A : (Nat → Int) → Prop} {w : (Nat → Bool) → Int} {C : Nat → Bool} {t : Int} {v a : Nat → Int} {y : Int}
/-- one unknown alone -/
def uni (i : Nat) : Nat → Int := fun j => if j = i then 1 else 0
theorem dot_uni (hi : i < 24) : dot 24 (uni i) x = x i := by
  unfold dot
  rw [sI_pick (k := i) 24 hi, sI_zero 24 (fun j _ => by
    by_cases e : j = i
    · rw [if_pos e]
    · rw [if_neg e]; unfold uni; rw [if_neg e, Int.zero_mul])]
  unfold uni
  rw [if_pos rfl]; omega
/-- all places tell: nothing is left -/
theorem all_told (R : RepE m E A) (hm : m ≤ 24) (qq : Cra (m + 1) w C t) (p : Spn (m + 1) w C t A) (hC : ∀ i, i < m → C i = true) (H : Hx E x 0) (hi : i < m) : x i = 0 := by
  have o := p _ ((R.hx hm).mp H) i (by omega) (hC i hi)
  unfold dot at o
  rw [sI_s, sI_pick (k := i) m hi, sI_zero m (fun j hj => by
    by_cases e : j = i
    · rw [if_pos e]
    · rw [if_neg e, jac_off (hC j hj) (Ne.symm e), Int.zero_mul])] at o
  rw [jac_on (hC i hi)] at o
  unfold xs at o
  rw [if_neg (show ¬ i = m by omega), if_pos rfl] at o
  rcases Int.mul_eq_zero.mp (show t * w C * x i = 0 by omega) with z | z
  · exact absurd z qq.2.1
  · exact z
/-- a place that does not tell: it is left -/
theorem not_told (R : RepE m E A) (hm : m ≤ 24) (qq : Cra (m + 1) w C t) (cm : C m = false) (hz : ∀ u, A u → ∀ S, wdg (m + 1) w u S = 0) (hi : i < m) (ci : C i = false) : ∃ x, Hx E x 0 ∧ x i ≠ 0 ∧ ∀ u : Nat → Int, dot (m + 1) u (xs m x 0) = rho (m + 1) w C t u i := by
  have ex : ∀ u : Nat → Int, dot (m + 1) u (xs m (kx (m + 1) w C t i) 0) = rho (m + 1) w C t u i := fun u => by
    rw [← kx_dot (by omega) ci]
    exact dot_congr (fun _ _ => rfl) (fun j _ => by
      unfold xs
      by_cases e : j = m
      · rw [if_pos e, e]
        unfold kx
        rw [if_neg (by omega), if_neg (by rw [cm]; exact Bool.false_ne_true)]; rfl
      · rw [if_neg e])
  refine ⟨kx (m + 1) w C t i, (R.hx hm).mpr (fun u hu => by rw [ex, rho_zero (hz u hu) (by omega)]), ?_, ex⟩
  unfold kx
  rw [if_pos rfl]
  exact qq.2.1
theorem rl_uni {m i : Nat} {v : Nat → Int} (e : ∀ j, j < m → v j = if j = i then 1 else 0) : rl m v ≤ 4 := by
  have e1 : rl m v = sumN (fun j => if i = j then 1 else 0) m := sumN_congr m (fun j hj => by
    show (v j).natAbs = _
    rw [e j hj]
    by_cases z : j = i
    · rw [if_pos z, if_pos z.symm]; rfl
    · rw [if_neg z, if_neg (fun u => z u.symm)]; rfl)
  rw [e1]
  exact Nat.le_trans sumN_one (by decide)
theorem EqS.agr {w : Nat → (Nat → Bool) → Int} {C : Nat → Nat → Bool} {t : Nat → Int} {R : Nat → Nat → Int} {col : Nat → Nat} {q : AH} (S : EqS B h m k w C t R col) (at_ : ∀ c j, (c = B + 57 ∧ j ≤ 1) ∨ c = B + 59 ∨ c = B + 60 ∨ c = B + 61 → hv q c j = hv h c j) : EqS B q m k w C t R col := by
  obtain ⟨⟨s1, s2⟩, s3, s4⟩ := S
  refine ⟨⟨by rw [at_ _ _ (by omega)]; exact s1, by rw [at_ _ _ (by omega)]; exact s2⟩, fun i hi => ?_, s4⟩
  obtain ⟨a1, a2, a3⟩ := s3 i hi
  exact ⟨by rw [at_ _ _ (by omega)]; exact a1, by rw [at_ _ _ (by omega)]; exact a2, fun j hj => by rw [at_ _ _ (by omega)]; exact a3 j hj⟩
/-- an unknown as drawn: whether it is not settled yet -/
theorem c_isNew413 (l : LX B n h) (hd : 18 ≤ d) (hm : m ≤ 24) (D : EqD B h m E false) (hi : i < m) (hv_ : ∀ j, j ≤ m → hv h (B + 58) j = if j = m then y else if j = i then 1 else 0) (hy : -200 ≤ y ∧ y ≤ 200) :
    Vt 0 (cll PP (ev PP (gsF gv) B) d 413 [(2, rf (B + 56)), (0, (i : Int))] h) (fun x h' => Agr (adW B) h h' ∧ ∃ b, x = b2i b ∧ (b = true ↔ ∃ z, Hx E z 0 ∧ z i ≠ 0) ∧ EqD B h' m (if b = true then addE E (uni i) y else E) false) := by
  obtain ⟨k, w, C, t, R, col, A, S, D1, D2, D3, D4, D5⟩ := D
  have qq : Cra (m + 1) (w k) (C k) (t k) := S.2.2.cra k (Nat.le_refl k)
  have cm : C k m = false := S.2.2.cm k (Nat.le_refl k)
  have kl := S.2.2.le
  obtain ⟨v, eqv⟩ : ∃ v : Nat → Int, v = fun j => if j = m then y else if j = i then 1 else 0 := ⟨_, rfl⟩
  have vj : ∀ j, v j = if j = m then y else if j = i then 1 else 0 := fun j => by rw [eqv]
  have vm : v m = y := by rw [vj, if_pos rfl]
  have vlo : ∀ j, j < m → v j = if j = i then 1 else 0 := fun j hj => by rw [vj, if_neg (by omega)]
  have ha : ∀ j, m ≤ j → uni i j = 0 := fun j hj => by unfold uni; rw [if_neg (by omega)]
  have e1 : ∀ j, j < m → uni i j = 1 * v j := fun j hj => by rw [vlo j hj, Int.one_mul]; rfl
  have e2 : y = 1 * v m := by rw [vm, Int.one_mul]
  have R' : RepE m (addE E (uni i) y) (fun u => A u ∨ u = v) := D1.add ha (by decide) e1 e2
  -- the row and what is across
  have dz : ∀ z : Nat → Int, dot (m + 1) v (xs m z 0) = z i := fun z => by
    have := dot_xs (x := z) (s := 0) hm ha e1 e2
    rw [dot_uni (by omega)] at this
    omega
  refine Vt.inq (D := 17) hd (Nat.le_of_ble_eq_true rfl) rfl (fun d hd Q K => ?_)
  refine Ends.eq (b413_0 (n := n) (by (repeat' first | assumption | refine LX.setF _ _ ?_ (by decide +kernel) | refine LX.setS ?_ rfl | refine LX.setA ?_ (by first | assumption | omega))) (by first | assumption | omega)) ?_
  rw [S.1.2]
  refine Ends.ct l (by decide +kernel) (by decide) (c_add127 (v := v) l (by omega) hm S (fun j hj => by rw [hv_ j hj, vj]) (rl_uni vlo) (by rw [vm]; omega)) (fun x q l1 _ _ _ ⟨g, z0, cases_⟩ => ?_)
  refine Ends.eq (b413_15 (n := n) (by (repeat' first | assumption | refine LX.setF _ _ ?_ (by decide +kernel) | refine LX.setS ?_ rfl | refine LX.setA ?_ (by first | assumption | omega))) (by first | assumption | omega)) ?_
  rcases cases_ with ⟨rz, x0, S', e57⟩ | ⟨e, w', C', t', R2, col', ⟨he, ce, hp⟩, x1, S', e57, ew, eR, eRk, ecol⟩
  · have rz' : ∀ j, j < m → rho (m + 1) (w k) (C k) (t k) v j = 0 := rz
    have no : ¬ ∃ z, Hx E z 0 ∧ z i ≠ 0 := by
      rintro ⟨z, H, zi⟩
      have P := (D1.hx hm).mp H
      have r := rho_dot (N := m + 1) (w := w k) (C := C k) (t := t k) (v := v) (x := xs m z 0)
      rw [sI_zero (m + 1) (f := fun c => if C k c = true then v c * dot (m + 1) (jac (m + 1) (w k) (C k) (t k) c) (xs m z 0) else 0) (fun c hc => by
        show (if C k c = true then v c * dot (m + 1) (jac (m + 1) (w k) (C k) (t k) c) (xs m z 0) else 0) = 0
        by_cases cc : C k c = true
        · rw [if_pos cc, D2 _ P c hc cc, Int.mul_zero]
        · rw [if_neg cc]), dz] at r
      have lz : dot (m + 1) (rho (m + 1) (w k) (C k) (t k) v) (xs m z 0) = 0 := by
        unfold dot
        rw [sI_s, sI_zero m (fun j hj => by rw [rz' j hj, Int.zero_mul])]
        unfold xs
        rw [if_pos rfl, Int.neg_zero, Int.mul_zero]; rfl
      rw [lz] at r
      rcases Int.mul_eq_zero.mp (show t k * w k (C k) * z i = 0 by omega) with u | u
      · exact qq.2.1 u
      · exact zi u
    have fin : ∀ q', (∀ c j, (c = B + 57 ∧ j ≤ 1) ∨ c = B + 59 ∨ c = B + 60 ∨ c = B + 61 → hv q' c j = hv q c j) → hv q' (B + 57) 2 = 0 → LX B n q' → Agr (adW B) h q' → ∀ u : Int, Ends (ev PP (gsF gv) B d 413 29 [(2, rf (B + 56)), (0, (i : Int)), (0, (k : Int)), (0, u)] [] q') Q := fun q' at_ e2' l' g' u => by
      have S2 := S'.agr at_
      refine Ends.eq (b413_29 (n := n) (by (repeat' first | assumption | refine LX.setF _ _ ?_ (by decide +kernel) | refine LX.setS ?_ rfl | refine LX.setA ?_ (by first | assumption | omega))) (by first | assumption | omega)) ?_
      rw [S2.1.2, ct5, if_neg (Int.lt_irrefl _)]
      refine Ends.sm (K _ _ ⟨g', false, rfl, ⟨fun z => absurd z Bool.false_ne_true, fun z => absurd z no⟩, ?_⟩)
      rw [if_neg Bool.false_ne_true]
      exact ⟨k, w, C, t, R, col, A, S2, D1, D2, D3, D4, e2'⟩
    by_cases u : rI m w C t k v m = 0
    · rw [if_pos u] at x0
      rw [if_neg (fun z => by
        rcases z with z | z
        · rw [D5] at z; exact z rfl
        · exact z u)] at e57
      refine Ends.b1 (fun _ => fin q (fun _ _ _ => rfl) e57 l1 g _) (fun z => absurd z (by omega))
    · rw [if_neg u] at x0
      refine Ends.b1 (fun z => absurd x0 z) (fun _ => ?_)
      exact fin _ (fun c j z => hv_set_ne (by omega)) (hv_set_at _ _ _ _) (LX.setF 57 2 l1 (by decide +kernel)) (g.set (Or.inl ⟨rfl, by decide⟩)) _
  · have hp' : rho (m + 1) (w k) (C k) (t k) v e ≠ 0 := hp
    refine Ends.b1 (fun _ => ?_) (fun z => absurd z (by omega))
    obtain ⟨z, H, -, ez⟩ := not_told D1 hm qq cm (D3 rfl) he ce
    have Dk := S'.2.2
    obtain ⟨-, ⟨b1, b2, b3⟩, -⟩ := Dk.2 k (Nat.lt_succ_self k)
    obtain ⟨k1, k2, k3⟩ := ew k (Nat.le_refl k)
    rw [k1, eRk] at b1
    rw [k2, ecol] at b2
    rw [k3, k2, ecol] at b3
    have P2 : Spn (m + 1) (w' (k + 1)) (C' (k + 1)) (t' (k + 1)) (fun u => A u ∨ u = v) := by
      rw [b1, b2, b3]
      exact (D2.mono (fun u hu => Or.inl hu)).step qq (Or.inr rfl) (by omega) ce hp'
    refine Ends.eq (b413_29 (n := n) (by (repeat' first | assumption | refine LX.setF _ _ ?_ (by decide +kernel) | refine LX.setS ?_ rfl | refine LX.setA ?_ (by first | assumption | omega))) (by first | assumption | omega)) ?_
    rw [S'.1.2, ct5, if_pos (by omega)]
    refine Ends.sm (K _ _ ⟨g, true, rfl, ⟨fun _ => ⟨z, H, by
      have zz := dz z
      rw [ez] at zz
      rw [← zz]; exact hp'⟩, fun _ => rfl⟩, ?_⟩)
    rw [if_pos rfl]
    refine ⟨k + 1, w', C', t', R2, col', _, S', R', P2, fun _ u hu => ?_, fun z => absurd z Bool.false_ne_true, by rw [e57]; exact D5⟩
    rcases hu with hu | hu
    · exact Dk.up (k + 1) (Nat.le_succ k) (Nat.le_refl _) (by rw [k1]; exact D3 rfl u hu)
    · intro S0
      rw [b1, hu]
      exact wdg_self
/-- it holds: with what solves it -/
theorem EqD.sat (D : EqD B h m E false) (hm : m ≤ 24) : Sat E := by
  obtain ⟨k, w, C, t, R, col, A, S, D1, D2, D3, D4, D5⟩ := D
  exact sat_of D1 hm (S.2.2.cra k (Nat.le_refl k)) (S.2.2.cm k (Nat.le_refl k)) (D3 rfl)
theorem EqD.rk (D : EqD B h m E false) (hm : m ≤ 24) : ∃ k : Nat, k ≤ m ∧ hv h (B + 57) 1 = (k : Int) ∧ (k = m → ∀ x, Hx E x 0 → ∀ i, i < m → x i = 0) := by
  obtain ⟨k, w, C, t, R, col, A, S, D1, D2, D3, D4, D5⟩ := D
  refine ⟨k, S.2.2.le, S.1.2, fun e x H i hi => ?_⟩
  exact all_told D1 hm (S.2.2.cra k (Nat.le_refl k)) D2 (fun j hj => cnt_full m (by rw [S.2.2.cnt k (Nat.le_refl k), e]) j hj) H hi
theorem tight_c {x : Int} {i : Nat} (hi : i ≤ 24) (h : x.natAbs ≤ (i * 200 + 1) * 4 ^ i) : -4611686018427387904 ≤ x ∧ x ≤ 4611686018427387904 := by
  have h1 : 4 ^ i ≤ 4 ^ 24 := Nat.pow_le_pow_right (by decide) hi
  have h2 : (i * 200 + 1) * 4 ^ i ≤ (24 * 200 + 1) * 4 ^ 24 := Nat.mul_le_mul (by omega) h1
  have h4 : (24 * 200 + 1) * 4 ^ 24 ≤ 4611686018427387904 := by decide +kernel
  generalize (24 * 200 + 1) * 4 ^ 24 = z at h2 h4
  omega
theorem Dch.tight {w : Nat → (Nat → Bool) → Int} {C : Nat → Nat → Bool} {t : Nat → Int} {R : Nat → Nat → Int} {col : Nat → Nat} (D : Dch m k w C t R col) (hm : m ≤ 24) : (-4611686018427387904 ≤ De w C t k ∧ De w C t k ≤ 4611686018427387904) ∧ ∀ c, c < m → -4611686018427387904 ≤ An m w C t k c ∧ An m w C t k c ≤ 4611686018427387904 := by
  have kl := D.le
  have cm := D.cm k (Nat.le_refl k)
  have t1 := one_t (D.cra k (Nat.le_refl k)).1
  refine ⟨tight_c (i := k) (by omega) ?_, fun c hc => ?_⟩
  · unfold De
    rw [Int.natAbs_mul, t1, Nat.one_mul]
    exact ((D.bd k (Nat.le_refl k)) _).2
  · unfold An jac
    rw [cm, if_neg Bool.false_ne_true]
    exact tight_c (x := -(t k * (sgp (pls (C k) m) m (m + 1) * (sgp (pls (C k) m) c (m + 1) * w k (mns (pls (C k) m) c))))) (i := k) (by omega) (by
      rw [Int.natAbs_neg, Int.natAbs_mul, Int.natAbs_mul, Int.natAbs_mul, t1, sgp_abs, sgp_abs, Nat.one_mul, Nat.one_mul, Nat.one_mul]
      exact ((D.bd k (Nat.le_refl k)) _).2)
theorem Dch.colOf {w : Nat → (Nat → Bool) → Int} {C : Nat → Nat → Bool} {t : Nat → Int} {R : Nat → Nat → Int} {col : Nat → Nat} (D : Dch m k w C t R col) {c : Nat} : ∀ i, i ≤ k → C i c = true → ∃ j, j < i ∧ col j = c
  | 0, _, h => by rw [D.1.2.1] at h; cases h
  | i + 1, hi, h => by
    obtain ⟨-, ⟨-, b2, -⟩, -⟩ := D.2 i (by omega)
    rw [b2] at h
    by_cases e : c = col i
    · exact ⟨i, by omega, e.symm⟩
    · have : C i c = true := by unfold pls at h; simpa [e] using h
      obtain ⟨j, h1, h2⟩ := D.colOf i (by omega) this
      exact ⟨j, by omega, h2⟩
/-- all is settled: what solves it -/
theorem c_solveD (l : LX B n h) (hd : 15 ≤ d) (hm : m ≤ 24) (D : EqD B h m E false) (hz : ∀ x, Hx E x 0 → ∀ i, i < m → x i = 0) :
    Vd (cll PP (ev PP (gsF gv) B) d 133 [(2, rf (B + 57))] h) (fun h' => Agr (soW B) h h' ∧ ∃ X s, s ≠ 0 ∧ (-4611686018427387904 ≤ s ∧ s ≤ 4611686018427387904) ∧ Hx E X s ∧ q130 B h' ∧ v130 B h' = s ∧ ∀ j, j < m → hv h' (B + 62) j = X j ∧ -4611686018427387904 ≤ X j ∧ X j ≤ 4611686018427387904) := by
  obtain ⟨k, w, C, t, R, col, A, S, D1, D2, D3, D4, D5⟩ := D
  have qq : Cra (m + 1) (w k) (C k) (t k) := S.2.2.cra k (Nat.le_refl k)
  have cm : C k m = false := S.2.2.cm k (Nat.le_refl k)
  have all : ∀ i, i < m → C k i = true := fun i hi => by
    cases e : C k i
    · obtain ⟨z, H, zi, -⟩ := not_told D1 hm qq cm (D3 rfl) hi e
      exact absurd (hz z H i hi) zi
    · rfl
  obtain ⟨h', eh, g, an⟩ := c_solve133 l hd hm S
  refine ⟨h', eh, g, fun j => if j < m then An m w C t k j else 0, De w C t k, qq.2.1, (S.2.2.tight hm).1, ?_, ?_⟩
  · refine (hx_iff D1 hm qq D2 (D3 rfl)).mpr (fun c hc cc => ?_)
    have hc' : c < m := by
      rcases (by omega : c < m ∨ c = m) with u | u
      · exact u
      · rw [u, cm] at cc; cases cc
    unfold dot
    rw [sI_s, sI_pick (k := c) m hc', sI_zero m (fun j hj => by
      by_cases e : j = c
      · rw [if_pos e]
      · rw [if_neg e, jac_off (all j hj) (Ne.symm e), Int.zero_mul]), jac_on cc]
    unfold xs
    dsimp only
    rw [if_neg (show ¬ c = m by omega), if_pos hc', if_pos rfl]
    show De w C t k * An m w C t k c + 0 + An m w C t k c * -De w C t k = 0
    rw [Int.mul_neg, Int.mul_comm (An m w C t k c)]
    omega
  · have S' : EqS B h' m k w C t R col := S.agr (fun c j z => g.at _ _ (fun u => by unfold soW at u; omega))
    have kl := S.2.2.le
    refine ⟨?_, ?_, fun j hj => ?_⟩
    · unfold q130
      rw [S'.1.2]
      by_cases e : k = 0
      · rw [show tst 1 (k : Int) 0 = false from by rw [tst1, decide_eq_true (by omega)]; rfl]; trivial
      · rw [show tst 1 (k : Int) 0 = true from by rw [tst1, decide_eq_false (by omega)]; rfl, show bop32 100 (k : Int) 1 = ((k - 1 : Nat) : Int) from subNN (y := 1) (by omega) (by omega)]
        exact ⟨by omega, by omega⟩
    · unfold v130
      rw [S'.1.2, ct1]
      by_cases e : k = 0
      · rw [if_pos (by omega)]
        have := S.2.2.de_0
        rw [e]; exact this.symm
      · rw [if_neg (by omega), show bop32 100 (k : Int) 1 = ((k - 1 : Nat) : Int) from subNN (y := 1) (by omega) (by omega), tn, (S'.2.1 (k - 1) (by omega)).2.1, show k - 1 + 1 = k by omega]
    · obtain ⟨i, h1, h2⟩ := S.2.2.colOf k (Nat.le_refl k) (all j hj)
      have := an i h1
      rw [h2] at this
      show _ = (if j < m then An m w C t k j else 0) ∧ _ ≤ (if j < m then An m w C t k j else 0) ∧ (if j < m then An m w C t k j else 0) ≤ _
      rw [if_pos hj]
      exact ⟨this, (S.2.2.tight hm).2 j hj⟩
end ISNEW
