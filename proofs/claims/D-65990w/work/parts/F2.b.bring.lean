/-! L3: equations (desk): one by one -/
section BRING
variable {gv : Nat → Int} {B n d m : Nat} {h : AH} {E E' : (Nat → Int) → Int → Prop} {c : Nat → Int} {con : Bool} {A : (Nat → Int) → Prop} {w : (Nat → Bool) → Int} {C : Nat → Bool} {t : Int} {v a : Nat → Int} {b f : Int} {k : Nat}
/-- one equation more -/
def addE (E : (Nat → Int) → Int → Prop) (a : Nat → Int) (b : Int) : (Nat → Int) → Int → Prop := fun x y => E x y ∨ (x = a ∧ y = b)
/-- it follows from the others -/
def Fol (E : (Nat → Int) → Int → Prop) (a : Nat → Int) (b : Int) : Prop := ∀ x s, Hx E x s → dot 24 a x = b * s
theorem Sat.mono (p : Sat E) (e : ∀ a b, E' a b → E a b) : Sat E' := by
  obtain ⟨x, s, h0, h1⟩ := p
  exact ⟨x, s, h0, fun a b z => h1 a b (e a b z)⟩
theorem RepE.add (R : RepE m E A) (ha : ∀ j, m ≤ j → a j = 0) (hf : f ≠ 0) (e1 : ∀ j, j < m → a j = f * v j) (e2 : b = f * v m) : RepE m (addE E a b) (fun u => A u ∨ u = v) := by
  refine ⟨fun x y hE => ?_, fun u hu => ?_⟩
  · rcases hE with hE | ⟨z1, z2⟩
    · obtain ⟨z, v', f', hA, h1, h2⟩ := R.1 x y hE
      exact ⟨z, v', f', Or.inl hA, h1, h2⟩
    · rw [z1, z2]
      exact ⟨ha, v, f, Or.inr rfl, e1, e2⟩
  · rcases hu with hA | z
    · obtain ⟨x, y, f', hE, h1⟩ := R.2 u hA
      exact ⟨x, y, f', Or.inl hE, h1⟩
    · rw [z]
      exact ⟨a, b, f, Or.inr ⟨rfl, rfl⟩, hf, e1, e2⟩
theorem fol_of (R : RepE m E A) (hm : m ≤ 24) (qq : Cra (m + 1) w C t) (p : Spn (m + 1) w C t A) (hz : ∀ S, wdg (m + 1) w v S = 0) (ha : ∀ j, m ≤ j → a j = 0) (e1 : ∀ j, j < m → a j = f * v j) (e2 : b = f * v m) : Fol E a b := by
  intro x s H
  have o := qq.orth (x := xs m x s) hz (fun i hi ci => p _ ((R.hx hm).mp H) i hi ci)
  have := dot_xs (x := x) (s := s) hm ha e1 e2
  rw [o, Int.mul_zero] at this
  omega
theorem not_fol (R : RepE m E A) (hm : m ≤ 24) (hz : ∀ u, A u → ∀ S, wdg (m + 1) w u S = 0) {i : Nat} (hi : i < m + 1) (ci : C i = false) (hp : rho (m + 1) w C t v i ≠ 0) (hf : f ≠ 0) (ha : ∀ j, m ≤ j → a j = 0) (e1 : ∀ j, j < m → a j = f * v j) (e2 : b = f * v m) : ¬ Fol E a b := by
  intro F
  obtain ⟨y, ey⟩ : ∃ y, y = kx (m + 1) w C t i := ⟨_, rfl⟩
  have ex : ∀ u : Nat → Int, dot (m + 1) u (xs m y (-(y m))) = rho (m + 1) w C t u i := fun u => by
    rw [← kx_dot hi ci, ← ey]
    exact dot_congr (fun _ _ => rfl) (fun j _ => by
      unfold xs
      by_cases e : j = m
      · rw [if_pos e, e]; omega
      · rw [if_neg e])
  have H : Hx E y (-(y m)) := (R.hx hm).mpr (fun u hu => by rw [ex, rho_zero (hz u hu) hi])
  have z := dot_xs (x := y) (s := -(y m)) hm ha e1 e2
  rw [F y _ H, ex] at z
  rcases Int.mul_eq_zero.mp (show f * rho (m + 1) w C t v i = 0 by omega) with z | z
  · exact hf z
  · exact hp z
/-- the desk's equations stand for E; whether they contradict -/
def EqD (B : Nat) (q : AH) (m : Nat) (E : (Nat → Int) → Int → Prop) (con : Bool) : Prop := ∃ (k : Nat) (w : Nat → (Nat → Bool) → Int) (C : Nat → Nat → Bool) (t : Nat → Int) (R : Nat → Nat → Int) (col : Nat → Nat) (A : (Nat → Int) → Prop), EqS B q m k w C t R col ∧ RepE m E A ∧ Spn (m + 1) (w k) (C k) (t k) A ∧ (con = false → ∀ v, A v → ∀ S, wdg (m + 1) (w k) v S = 0) ∧ (con = true → ¬ Sat E) ∧ hv q (B + 57) 2 = b2i con
/-- what they rest on -/
def eqW (B : Nat) : Nat → Nat → Prop := fun c k => (c = B + 57 ∧ k ≤ 2) ∨ c = B + 59 ∨ c = B + 60 ∨ c = B + 61
theorem EqD.agr {q : AH} {W : Nat → Nat → Prop} (D : EqD B h m E con) (g : Agr W h q) (hW : ∀ c k, eqW B c k → ¬ W c k) : EqD B q m E con := by
  obtain ⟨k, w, C, t, R, col, A, ⟨⟨s1, s2⟩, s3, s4⟩, D2⟩ := D
  obtain ⟨r1, r2, r3, r4, r5⟩ := D2
  have at_ : ∀ c k, eqW B c k → hv q c k = hv h c k := fun c k z => g.at _ _ (hW c k z)
  refine ⟨k, w, C, t, R, col, A, ⟨⟨by rw [at_ _ _ (by unfold eqW; omega)]; exact s1, by rw [at_ _ _ (by unfold eqW; omega)]; exact s2⟩, fun i hi => ?_, s4⟩, r1, r2, r3, r4, by rw [at_ _ _ (by unfold eqW; omega)]; exact r5⟩
  obtain ⟨a1, a2, a3⟩ := s3 i hi
  exact ⟨by rw [at_ _ _ (by unfold eqW; omega)]; exact a1, by rw [at_ _ _ (by unfold eqW; omega)]; exact a2, fun j hj => by rw [at_ _ _ (by unfold eqW; omega)]; exact a3 j hj⟩
theorem EqD.cg (D : EqD B h m E con) (e : ∀ a b, E a b ↔ E' a b) : EqD B h m E' con := by
  rw [show E' = E from funext (fun a => funext (fun b => propext (e a b).symm))]
  exact D
theorem EqD.m0 (D : EqD B h m E con) : hv h (B + 57) 0 = (m : Int) := by
  obtain ⟨k, w, C, t, R, col, A, ⟨⟨s1, s2⟩, s3, s4⟩, D2⟩ := D
  exact s1
theorem c_clear128 (l : LX B n h) (hd : 12 ≤ d) : Vd (cll PP (ev PP (gsF gv) B) d 128 [(2, rf (B + 57)), (0, (m : Int))] h) (fun h' => Agr (fun c k => (c = B + 57 ∧ k ≤ 2) ∨ c = B + 58) h h' ∧ EqD B h' m (fun _ _ => False) false ∧ ∀ j, j < 25 → hv h' (B + 58) j = 0) := by
  refine Vd.inq (D := 11) hd (Nat.le_of_ble_eq_true rfl) rfl (fun d hd Q K => ?_)
  refine Ends.eq (b128_0 (n := n) (by (repeat' first | assumption | refine LX.setF _ _ ?_ (by decide +kernel) | refine LX.setS ?_ rfl | refine LX.setA ?_ (by first | assumption | omega))) (by first | assumption | omega)) ?_
  have l1 : LX B n (hset (hset (hset h (B + 57) 0 (m : Int)) (B + 57) 1 (0 : Int)) (B + 57) 2 (0 : Int)) := LX.setF 57 2 (LX.setF 57 1 (LX.setF 57 0 l (by decide +kernel)) (by decide +kernel)) (by decide +kernel)
  have G1 : Agr (fun c k => (c = B + 57 ∧ k ≤ 2) ∨ c = B + 58) h (hset (hset (hset h (B + 57) 0 (m : Int)) (B + 57) 1 (0 : Int)) (B + 57) 2 (0 : Int)) := ((Agr.rf.set (Or.inl ⟨rfl, by decide⟩)).set (Or.inl ⟨rfl, by decide⟩)).set (Or.inl ⟨rfl, by decide⟩)
  have e0 : hv (hset (hset (hset h (B + 57) 0 (m : Int)) (B + 57) 1 (0 : Int)) (B + 57) 2 (0 : Int)) (B + 57) 0 = (m : Int) := by rw [hv_set_ne (by omega), hv_set_ne (by omega), hv_set_at]
  have e1 : hv (hset (hset (hset h (B + 57) 0 (m : Int)) (B + 57) 1 (0 : Int)) (B + 57) 2 (0 : Int)) (B + 57) 1 = 0 := by rw [hv_set_ne (by omega), hv_set_at]
  have e2 : hv (hset (hset (hset h (B + 57) 0 (m : Int)) (B + 57) 1 (0 : Int)) (B + 57) 2 (0 : Int)) (B + 57) 2 = 0 := by rw [hv_set_at]
  obtain ⟨q1, eq1⟩ : ∃ q1, q1 = hset (hset (hset h (B + 57) 0 (m : Int)) (B + 57) 1 (0 : Int)) (B + 57) 2 (0 : Int) := ⟨_, rfl⟩
  rw [← eq1] at l1 G1 e0 e1 e2 ⊢
  refine Ends.cv l1 (by decide +kernel) (c_empty132 l1 (by omega)) (fun q2 l2 _ _ _ ⟨g2, z2⟩ => ?_)
  refine Ends.eq (b128_19 (n := n) (by (repeat' first | assumption | refine LX.setF _ _ ?_ (by decide +kernel) | refine LX.setS ?_ rfl | refine LX.setA ?_ (by first | assumption | omega))) (by first | assumption | omega)) ?_
  have at_ : ∀ k, hv q2 (B + 57) k = hv q1 (B + 57) k := fun k => g2.at _ _ (by omega)
  refine Ends.sm (K _ ⟨G1.tr g2 (fun _ _ z => Or.inr z), ?_, z2⟩)
  refine ⟨0, fun _ => w0 (m + 1), fun _ _ => false, fun _ => 1, fun _ _ => 0, fun _ => 0, fun _ => False, ⟨⟨by rw [at_]; exact e0, by rw [at_]; exact e1⟩, fun i hi => absurd hi (Nat.not_lt_zero i), ⟨rfl, rfl, rfl⟩, fun i hi => absurd hi (Nat.not_lt_zero i)⟩, ⟨fun a b z => z.elim, fun v z => z.elim⟩, Spn.ini, fun _ v z => z.elim, fun z => absurd z Bool.false_ne_true, by rw [at_]; exact e2⟩
/-- the row comes to them -/
theorem c_addD (l : LX B n h) (hd : 16 ≤ d) (hm : m ≤ 24) (D : EqD B h m E con) (hv_ : ∀ j, j ≤ m → hv h (B + 58) j = v j) (h1 : rl m v ≤ 4) (h2 : (v m).natAbs ≤ 200) (ha : ∀ j, m ≤ j → a j = 0) (hf : f ≠ 0) (e1 : ∀ j, j < m → a j = f * v j) (e2 : b = f * v m) :
    Vt 0 (cll PP (ev PP (gsF gv) B) d 127 [(2, rf (B + 57))] h) (fun x h' => Agr (adW B) h h' ∧ (∀ j, j < 25 → hv h' (B + 58) j = 0) ∧ ∃ con', EqD B h' m (addE E a b) con' ∧ (con = false → (x = 0 ↔ Fol E a b)) ∧ (x = 0 → con' = con)) := by
  obtain ⟨k, w, C, t, R, col, A, S, D1, D2, D3, D4, D5⟩ := D
  have qq : Cra (m + 1) (w k) (C k) (t k) := S.2.2.cra k (Nat.le_refl k)
  have cm : C k m = false := S.2.2.cm k (Nat.le_refl k)
  obtain ⟨x, h', ex, g, z0, cases_⟩ := c_add127 (d := d) l (by omega) hm S hv_ h1 h2
  refine ⟨x, h', ex, g, z0, ?_⟩
  have R' : RepE m (addE E a b) (fun u => A u ∨ u = v) := D1.add ha hf e1 e2
  have P' : Spn (m + 1) (w k) (C k) (t k) (fun u => A u ∨ u = v) := D2.mono (fun u hu => Or.inl hu)
  have nS : con = true → ¬ Sat (addE E a b) := fun z y => D4 z (y.mono (fun _ _ p => Or.inl p))
  rcases cases_ with ⟨rz, x0, S', e57⟩ | ⟨i, w', C', t', R2, col', ⟨hi, ci, hp⟩, x1, S', e57, ew, eR, eRk, ecol⟩
  · have rz' : ∀ j, j < m → rho (m + 1) (w k) (C k) (t k) v j = 0 := rz
    by_cases y : rI m w C t k v m = 0
    · have y' : rho (m + 1) (w k) (C k) (t k) v m = 0 := y
      have wz : ∀ S, wdg (m + 1) (w k) v S = 0 := fun S => qq.wdg0 (fun j hj => by
        rcases (by omega : j < m ∨ j = m) with u | u
        · exact rz' j u
        · rw [u]; exact y') S
      rw [if_pos y] at x0
      refine ⟨con, ⟨k, w, C, t, R, col, _, S', R', P', fun z u hu => ?_, nS, ?_⟩, fun z => ⟨fun _ => fol_of D1 hm qq D2 wz ha e1 e2, fun _ => x0⟩, fun _ => rfl⟩
      · rcases hu with hu | hu
        · exact D3 z u hu
        · rw [hu]; exact wz
      · rw [e57, D5]
        cases con
        · rw [if_neg (by rw [y]; decide)]; rfl
        · rw [if_pos (Or.inl (by decide))]; rfl
    · rw [if_neg y] at x0
      refine ⟨true, ⟨k, w, C, t, R, col, _, S', R', P', fun z => absurd z.symm Bool.false_ne_true, fun _ => not_sat R' hm P' (Or.inr rfl) rz' y, ?_⟩, fun z => ⟨fun u => by omega, fun F => absurd F (not_fol D1 hm (D3 z) (Nat.lt_succ_self m) cm y hf ha e1 e2)⟩, fun u => by omega⟩
      rw [e57, if_pos (Or.inr y)]; rfl
  · have hp' : rho (m + 1) (w k) (C k) (t k) v i ≠ 0 := hp
    have Dk := S'.2.2
    obtain ⟨-, ⟨b1, b2, b3⟩, -⟩ := Dk.2 k (Nat.lt_succ_self k)
    obtain ⟨k1, k2, k3⟩ := ew k (Nat.le_refl k)
    rw [k1, eRk] at b1
    rw [k2, ecol] at b2
    rw [k3, k2, ecol] at b3
    have P2 : Spn (m + 1) (w' (k + 1)) (C' (k + 1)) (t' (k + 1)) (fun u => A u ∨ u = v) := by
      rw [b1, b2, b3]
      exact P'.step qq (Or.inr rfl) (by omega) ci hp'
    refine ⟨con, ⟨k + 1, w', C', t', R2, col', _, S', R', P2, fun z u hu => ?_, nS, ?_⟩, fun z => ⟨fun u => by omega, fun F => absurd F (not_fol D1 hm (D3 z) (by omega) ci hp' hf ha e1 e2)⟩, fun _ => rfl⟩
    · rcases hu with hu | hu
      · exact Dk.up (k + 1) (Nat.le_succ k) (Nat.le_refl _) (by rw [k1]; exact D3 z u hu)
      · intro S0
        rw [b1, hu]
        exact wdg_self
    · rw [e57]; exact D5
/-- formulas of constraints: what the desk finds -/
def GvD (gv : Nat → Int) (B n s nk : Nat) (W : Nat → Nat → Prop) (cs : Nat → Cst) (w : Nat → Int) (isC gk : Nat → Bool) (Inv : AH → Prop) : Prop := ∀ (k d' : Nat) (q : AH), k < nk → isC k = true → (cs k).1 ≤ 5 → LX B n q → 402 ≤ d' → Inv q → (-200 ≤ w k ∧ w k ≤ 200) ∧ Vt 0 (cll PP (ev PP (gsF gv) B) d' 201 [(2, rf (B + 7)), (0, ((coA s k + 5 : Nat) : Int))] q) (fun x q' => Agr W q q' ∧ Inv q' ∧ x = b2i (gk k) ∧ (gk k = true → hv q' (B + 7) 22 = w k))
/-- what the desk's formula of a constraint gives -/
def wD (cs : Nat → Cst) (w : Nat → Int) (gk : Nat → Bool) (k : Nat) : Int := if (cs k).1 ≤ 5 ∧ gk k = true then w k else 0
theorem c_gives406 {s nk : Nat} {W : Nat → Nat → Prop} {cs : Nat → Cst} {w xa xb xc : Nat → Int} {isC gk : Nat → Bool} {Inv : AH → Prop} (l : LX B n h) (hd : 404 ≤ d) (hc : ∀ z, z < 37368 → hv h (B + 2) z = c z) (hs : s < 6) (C : CsD c s nk cs xa xb xc isC) (hk : k < nk) (ik : isC k = true) (HG : GvD gv B n s nk W cs w isC gk Inv) (i : Inv h) :
    Vt 0 (cll PP (ev PP (gsF gv) B) d 406 [(2, rf (B + 56)), (0, (s : Int)), (0, (k : Int))] h) (fun x h' => Agr W h h' ∧ Inv h' ∧ x = b2i (decide (6 ≤ (cs k).1) || gk k)) := by
  obtain ⟨C1, C2, C3⟩ := C
  obtain ⟨a1, a2, -⟩ := C3 k hk
  have hco : coA s k < 37000 := by unfold coA skA; omega
  obtain ⟨g0, v0⟩ := cell_is (i := coA s k) hc (by omega)
  refine Vt.inq (D := 403) hd (Nat.le_of_ble_eq_true rfl) rfl (fun d hd Q K => ?_)
  refine Ends.eq (b406_0 (n := n) (by (repeat' first | assumption | refine LX.setF _ _ ?_ (by decide +kernel) | refine LX.setS ?_ rfl | refine LX.setA ?_ (by first | assumption | omega))) (by first | assumption | omega)) ?_
  rw [v393_is hs (by omega), v0, a1]
  refine Ends.g g0 (Ends.b3 (fun z => ?_) (fun z => ?_))
  · refine Ends.eq (b406_34 (n := n) (by (repeat' first | assumption | refine LX.setF _ _ ?_ (by decide +kernel) | refine LX.setS ?_ rfl | refine LX.setA ?_ (by first | assumption | omega))) (by first | assumption | omega)) ?_
    refine Ends.eq (b406_39 (n := n) (by (repeat' first | assumption | refine LX.setF _ _ ?_ (by decide +kernel) | refine LX.setS ?_ rfl | refine LX.setA ?_ (by first | assumption | omega))) (by first | assumption | omega)) ?_
    rw [show (decide (6 ≤ (cs k).1) || gk k) = true from by rw [decide_eq_true (by omega)]; rfl] at K
    exact Ends.g (Or.inr rfl) (Ends.sm (K _ _ ⟨Agr.rf, i, rfl⟩))
  · obtain ⟨-, HG1⟩ := HG k d h hk ik (by omega) l (by omega) i
    rw [show bop32 96 ((coA s k : Nat) : Int) 5 = ((coA s k + 5 : Nat) : Int) from addK (k := 5) (by omega)]
    refine Ends.ct l (by decide +kernel) (by decide) HG1 (fun x q2 l2 _ _ _ ⟨g2, i2, ex, _⟩ => ?_)
    refine Ends.eq (b406_31 (n := n) (by (repeat' first | assumption | refine LX.setF _ _ ?_ (by decide +kernel) | refine LX.setS ?_ rfl | refine LX.setA ?_ (by first | assumption | omega))) (by first | assumption | omega)) ?_
    refine Ends.sm (K _ _ ⟨g2, i2, ?_⟩)
    rw [ct0, ex, decide_eq_false (by omega : ¬ 6 ≤ (cs k).1)]
    cases gk k <;> rfl
theorem c_given405 {s nk : Nat} {W : Nat → Nat → Prop} {cs : Nat → Cst} {w xa xb xc : Nat → Int} {isC gk : Nat → Bool} {Inv : AH → Prop} (l : LX B n h) (hd : 404 ≤ d) (hc : ∀ z, z < 37368 → hv h (B + 2) z = c z) (hs : s < 6) (C : CsD c s nk cs xa xb xc isC) (hk : k < nk) (ik : isC k = true) (HG : GvD gv B n s nk W cs w isC gk Inv) (i : Inv h) :
    Vt 0 (cll PP (ev PP (gsF gv) B) d 405 [(2, rf (B + 56)), (0, (s : Int)), (0, (k : Int))] h) (fun x h' => Agr W h h' ∧ Inv h' ∧ x = wD cs w gk k ∧ (-200 ≤ x ∧ x ≤ 200)) := by
  obtain ⟨C1, C2, C3⟩ := C
  obtain ⟨a1, a2, -⟩ := C3 k hk
  have hco : coA s k < 37000 := by unfold coA skA; omega
  obtain ⟨g0, v0⟩ := cell_is (i := coA s k) hc (by omega)
  refine Vt.inq (D := 403) hd (Nat.le_of_ble_eq_true rfl) rfl (fun d hd Q K => ?_)
  refine Ends.eq (b405_0 (n := n) (by (repeat' first | assumption | refine LX.setF _ _ ?_ (by decide +kernel) | refine LX.setS ?_ rfl | refine LX.setA ?_ (by first | assumption | omega))) (by first | assumption | omega)) ?_
  rw [v393_is hs (by omega), v0, a1]
  refine Ends.g g0 (Ends.b3 (fun z => ?_) (fun z => ?_))
  · refine Ends.eq (b405_44 (n := n) (by (repeat' first | assumption | refine LX.setF _ _ ?_ (by decide +kernel) | refine LX.setS ?_ rfl | refine LX.setA ?_ (by first | assumption | omega))) (by first | assumption | omega)) ?_
    refine Ends.eq (b405_45 (n := n) (by (repeat' first | assumption | refine LX.setF _ _ ?_ (by decide +kernel) | refine LX.setS ?_ rfl | refine LX.setA ?_ (by first | assumption | omega))) (by first | assumption | omega)) ?_
    exact Ends.sm (K _ _ ⟨Agr.rf, i, by unfold wD; rw [if_neg (by omega)], by decide⟩)
  · obtain ⟨w1, HG1⟩ := HG k d h hk ik (by omega) l (by omega) i
    rw [show bop32 96 ((coA s k : Nat) : Int) 5 = ((coA s k + 5 : Nat) : Int) from addK (k := 5) (by omega)]
    refine Ends.ct l (by decide +kernel) (by decide) HG1 (fun x q2 l2 _ _ _ ⟨g2, i2, ex, e22⟩ => ?_)
    refine Ends.eq (b405_31 (n := n) (by (repeat' first | assumption | refine LX.setF _ _ ?_ (by decide +kernel) | refine LX.setS ?_ rfl | refine LX.setA ?_ (by first | assumption | omega))) (by first | assumption | omega)) ?_
    refine Ends.sm (K _ _ ⟨g2, i2, ?_⟩)
    rw [ct0, ex]
    unfold wD
    cases e : gk k
    · rw [if_pos (show b2i false = 0 from rfl), if_neg (fun z => absurd z.2 Bool.false_ne_true)]
      exact ⟨rfl, by decide⟩
    · rw [if_neg (show ¬ b2i true = 0 by decide), if_pos ⟨by omega, rfl⟩, show v200 B q2 = w k from e22 e]
      exact ⟨rfl, w1⟩
/-- the first i equations of a constraint more -/
def upE (E : (Nat → Int) → Int → Prop) (t : Cst) (w : Int) (i : Nat) : (Nat → Int) → Int → Prop := fun x y => E x y ∨ ∃ i', i' < i ∧ x = tmS (eqC t i') ∧ y = rhC t w i'
/-- how many -/
def nuE (t : Cst) : Nat := if eq2 t.1 = true then 2 else 1
theorem ok_nu {t : Cst} {i : Nat} : i < nuE t ↔ okI t i := by
  unfold nuE okI
  by_cases e : eq2 t.1 = true
  · rw [if_pos e]
    constructor
    · intro z
      rcases (by omega : i = 0 ∨ i = 1) with y | y
      · exact Or.inl y
      · exact Or.inr ⟨y, e⟩
    · rintro (y | ⟨y, -⟩) <;> omega
  · rw [if_neg e]
    constructor
    · intro z
      exact Or.inl (by omega)
    · rintro (y | ⟨y, z⟩)
      · omega
      · exact absurd z e
theorem v402_is {t : Cst} (hk : t.1 < 24) : v402 ((t.1 : Nat) : Int) = ((nuE t : Nat) : Int) := by
  have : ∀ k : Fin 24, v402 ((k : Nat) : Int) = (((if eq2 k = true then 2 else 1 : Nat) : Nat) : Int) := by decide +kernel
  exact this ⟨t.1, hk⟩
theorem Hx.up {t : Cst} {y : Int} {i : Nat} {x : Nat → Int} {s : Int} (H : Hx E x s) (F : ∀ i', i' < i → Fol E (tmS (eqC t i')) (rhC t y i')) : Hx (upE E t y i) x s := by
  intro p q z
  rcases z with z | ⟨i', hi, z1, z2⟩
  · exact H p q z
  · rw [z1, z2]
    exact F i' hi x s H
/-- no term beyond the unknowns -/
def LoC (m : Nat) (t : Cst) : Prop := ∀ i, i < 2 → ∀ j, m ≤ j → tmS (eqC t i) j = 0
def brW (W : Nat → Nat → Prop) (B : Nat) : Nat → Nat → Prop := fun c k => W c k ∨ adW B c k
set_option maxHeartbeats 1000000 in
/-- all equations of a constraint come: whether they follow -/
theorem c_bring389 {s nk : Nat} {W : Nat → Nat → Prop} {cs : Nat → Cst} {w xa xb xc : Nat → Int} {isC gk : Nat → Bool} {Inv : AH → Prop} (l : LX B n h) (hd : 406 ≤ d) (hc : ∀ z, z < 37368 → hv h (B + 2) z = c z) (hs : s < 6) (C : CsD c s nk cs xa xb xc isC) (hk : k < nk) (ik : isC k = true) (HG : GvD gv B n s nk W cs w isC gk Inv) (i0 : Inv h) (hI : ∀ q q', Inv q → Agr (adW B) q q' → Inv q') (hW : ∀ c k, W c k → ¬ eqW B c k ∧ c ≠ B + 2) (hm : m ≤ 24) (lo : LoC m (cs k)) (D : EqD B h m E con) :
    Vt 0 (cll PP (ev PP (gsF gv) B) d 389 [(2, rf (B + 56)), (0, (s : Int)), (0, (k : Int))] h) (fun x h' => Agr (brW W B) h h' ∧ Inv h' ∧ ∃ con' fo, EqD B h' m (upE E (cs k) (wD cs w gk k) (nuE (cs k))) con' ∧ x = b2i fo ∧ (con = false → (fo = true ↔ ∀ i, i < nuE (cs k) → Fol E (tmS (eqC (cs k) i)) (rhC (cs k) (wD cs w gk k) i)))) := by
  obtain ⟨C1, C2, C3⟩ := id C
  obtain ⟨a1, a2, -, -, -, -, a7⟩ := C3 k hk
  have hco : coA s k < 37000 := by unfold coA skA; omega
  have hn : nuE (cs k) ≤ 2 := by unfold nuE; split <;> omega
  refine Vt.inq (D := 405) hd (Nat.le_of_ble_eq_true rfl) rfl (fun d hd Q K => ?_)
  refine Ends.eq (b389_0 (n := n) (by (repeat' first | assumption | refine LX.setF _ _ ?_ (by decide +kernel) | refine LX.setS ?_ rfl | refine LX.setA ?_ (by first | assumption | omega))) (by first | assumption | omega)) ?_
  refine Ends.ct l (by decide +kernel) (by decide) (c_given405 l (by omega) hc hs C hk ik HG i0) (fun y q1 l1 _ _ _ ⟨g1, i1, ey, yb⟩ => ?_)
  refine Ends.eq (b389_6 (n := n) (by (repeat' first | assumption | refine LX.setF _ _ ?_ (by decide +kernel) | refine LX.setS ?_ rfl | refine LX.setA ?_ (by first | assumption | omega))) (by first | assumption | omega)) ?_
  rw [← ey] at K
  have key : ∀ (r i : Nat) (q : AH) (con1 fo : Bool), i + r = nuE (cs k) → LX B n q → Agr (brW W B) h q → Inv q → EqD B q m (upE E (cs k) y i) con1 → (con = false → (fo = true → con1 = false) ∧ (fo = true ↔ ∀ i', i' < i → Fol E (tmS (eqC (cs k) i')) (rhC (cs k) y i'))) → Ends (ev PP (gsF gv) B d 389 13 [(2, rf (B + 56)), (0, (s : Int)), (0, (k : Int)), (0, y), (0, b2i fo), (0, (i : Int))] [] q) Q := by
    intro r
    induction r with
    | zero =>
      intro i q con1 fo e lq g iq D1 F
      have hc1 : ∀ z, z < 37368 → hv q (B + 2) z = c z := fun z hz => by rw [g.at _ _ (fun p => by rcases p with p | p; exact (hW _ _ p).2 rfl; unfold adW at p; omega)]; exact hc z hz
      obtain ⟨g0, v0⟩ := cell_is (i := coA s k) hc1 (by omega)
      refine Ends.eq (b389_13 (n := n) (by (repeat' first | assumption | refine LX.setF _ _ ?_ (by decide +kernel) | refine LX.setS ?_ rfl | refine LX.setA ?_ (by first | assumption | omega))) (by first | assumption | omega)) ?_
      rw [v393_is hs (by omega), v0, a1, v402_is a2]
      refine Ends.g g0 (Ends.b3 (fun _ => ?_) (fun z => absurd z (by omega)))
      refine Ends.g (by cases fo; exact Or.inl rfl; exact Or.inr rfl) (Ends.sm (K _ _ ⟨g, iq, con1, fo, ?_, rfl, fun z => ?_⟩))
      · rw [show nuE (cs k) = i from by omega]; exact D1
      · rw [show nuE (cs k) = i from by omega]; exact (F z).2
    | succ r ih =>
      intro i q con1 fo e lq g iq D1 F
      have hc1 : ∀ z, z < 37368 → hv q (B + 2) z = c z := fun z hz => by rw [g.at _ _ (fun p => by rcases p with p | p; exact (hW _ _ p).2 rfl; unfold adW at p; omega)]; exact hc z hz
      obtain ⟨g0, v0⟩ := cell_is (i := coA s k) hc1 (by omega)
      have i2 : i < 2 := by omega
      have ok : okI (cs k) i := ok_nu.mp (by omega)
      refine Ends.eq (b389_13 (n := n) (by (repeat' first | assumption | refine LX.setF _ _ ?_ (by decide +kernel) | refine LX.setS ?_ rfl | refine LX.setA ?_ (by first | assumption | omega))) (by first | assumption | omega)) ?_
      rw [v393_is hs (by omega), v0, a1, v402_is a2]
      refine Ends.g g0 (Ends.b3 (fun z => absurd z (by omega)) (fun _ => ?_))
      refine Ends.cv lq (by decide +kernel) (c_lay417 lq (by omega) hc1 hs C hk i2 ok D1.m0 hm yb) (fun q2 l2 _ _ _ ⟨g2, z2⟩ => ?_)
      refine Ends.eq (b389_42 (n := n) (by (repeat' first | assumption | refine LX.setF _ _ ?_ (by decide +kernel) | refine LX.setS ?_ rfl | refine LX.setA ?_ (by first | assumption | omega))) (by first | assumption | omega)) ?_
      have D2 : EqD B q2 m (upE E (cs k) y i) con1 := D1.agr g2 (fun c k z p => by unfold eqW at z; omega)
      obtain ⟨v, ev⟩ : ∃ v : Nat → Int, v = fun j => (if j = m then y else 0) + sgC (cs k).1 * tmS (eqC (cs k) i) j := ⟨_, rfl⟩
      have vj : ∀ j, v j = (if j = m then y else 0) + sgC (cs k).1 * tmS (eqC (cs k) i) j := fun j => by rw [ev]
      have tm0 : tmS (eqC (cs k) i) m = 0 := lo i i2 m (Nat.le_refl m)
      have vm : v m = y := by rw [vj, if_pos rfl, tm0, Int.mul_zero]; omega
      have vlo : ∀ j, j < m → v j = sgC (cs k).1 * tmS (eqC (cs k) i) j := fun j hj => by rw [vj, if_neg (by omega)]; omega
      have sg1 : sgC (cs k).1 = 1 ∨ sgC (cs k).1 = -1 := by unfold sgC; split; exact Or.inr rfl; exact Or.inl rfl
      have ok4 : RwK (eqC (cs k) i) := eqC_ok a2 a7.pn
      have r4 : rl m v ≤ 4 := by
        have e1 : rl m v = rl m (tmS (eqC (cs k) i)) := by
          unfold rl
          exact sumN_congr m (fun j hj => by
            rw [vlo j hj]
            rcases sg1 with z | z <;> rw [z]
            · rw [Int.one_mul]
            · rw [Int.neg_mul, Int.one_mul, Int.natAbs_neg])
        rw [e1]
        exact Nat.le_trans (rl_tmS _ _) ok4.1
      have eb : rhC (cs k) y i = sgC (cs k).1 * v m := by
        rw [vm]
        unfold rhC sgC
        rcases (by omega : (cs k).1 ≤ 5 ∨ 6 ≤ (cs k).1) with z | z
        · have i0' : i = 0 := by
            rcases ok with p | ⟨-, p⟩
            · exact p
            · exact absurd z (eqC_sec p)
          rw [if_pos ⟨i0', z⟩, if_neg (by omega), Int.one_mul]
        · have y0 : y = 0 := by
            rw [ey]; unfold wD
            exact if_neg (fun p => by omega)
          rw [if_neg (fun p => by omega), y0, Int.mul_zero]
      refine Ends.ct l2 (by decide +kernel) (by decide) (c_addD (v := v) (a := tmS (eqC (cs k) i)) (b := rhC (cs k) y i) (f := sgC (cs k).1) l2 (by omega) hm D2 (fun j hj => by rw [z2 j (by omega), vj]) r4 (by rw [vm]; omega) (fun j hj => lo i i2 j hj) (by rcases sg1 with z | z <;> rw [z] <;> decide) (fun j hj => by rw [vlo j hj]; rcases sg1 with z | z <;> rw [z] <;> omega) eb) (fun x q3 l3 _ _ _ ⟨g3, z3, con3, D3, F3, F4⟩ => ?_)
      refine Ends.eq (b389_49 (n := n) (by (repeat' first | assumption | refine LX.setF _ _ ?_ (by decide +kernel) | refine LX.setS ?_ rfl | refine LX.setA ?_ (by first | assumption | omega))) (by first | assumption | omega)) ?_
      have G3 : Agr (brW W B) h q3 := (g.tr g2 (fun c _ z => Or.inr (by unfold adW; omega))).tr g3 (fun _ _ z => Or.inr z)
      have I3 : Inv q3 := hI _ _ (hI _ _ iq (g2.sub (fun c _ z => by unfold adW; omega))) g3
      have D4 : EqD B q3 m (upE E (cs k) y (i + 1)) con3 := D3.cg (fun p q => by
        unfold addE upE
        constructor
        · rintro ((z | ⟨i', hi, z⟩) | z)
          · exact Or.inl z
          · exact Or.inr ⟨i', by omega, z⟩
          · exact Or.inr ⟨i, by omega, z⟩
        · rintro (z | ⟨i', hi, z⟩)
          · exact Or.inl (Or.inl z)
          · rcases (by omega : i' < i ∨ i' = i) with u | u
            · exact Or.inl (Or.inr ⟨i', u, z⟩)
            · rw [u] at z; exact Or.inr z)
      obtain ⟨fo', ef⟩ : ∃ fo' : Bool, fo' = (decide (x = 0) && fo) := ⟨_, rfl⟩
      have ex : cond (tst 1 x 0) (0 : Int) (cond (tst 0 (b2i fo) 0) 0 1) = b2i fo' := by
        rw [ct1, ct0, ef]
        by_cases z : x = 0
        · rw [decide_eq_true z]
          cases fo
          · rw [if_pos z]; rfl
          · rw [if_pos z]; rfl
        · rw [decide_eq_false z, if_neg z]; rfl
      rw [ex, w_succ (i := i) (by omega)]
      refine ih (i + 1) q3 con3 fo' (by omega) l3 G3 I3 D4 (fun cz => ?_)
      obtain ⟨f1, f2⟩ := F cz
      cases fo
      · have e0 : fo' = false := by rw [ef, Bool.and_false]
        rw [e0]
        refine ⟨fun z => absurd z Bool.false_ne_true, fun z => absurd z Bool.false_ne_true, fun z => ?_⟩
        exact absurd (f2.mpr (fun i' hi => z i' (by omega))) Bool.false_ne_true
      · have c1 := f1 rfl
        have e0 : fo' = decide (x = 0) := by rw [ef, Bool.and_true]
        have fx : x = 0 ↔ Fol E (tmS (eqC (cs k) i)) (rhC (cs k) y i) := by
          rw [F3 c1]
          constructor
          · intro z p q H
            exact z p q (H.up (f2.mp rfl))
          · intro z p q H
            exact z p q (fun a b u => H a b (Or.inl u))
        rw [e0]
        refine ⟨fun z => by rw [F4 (of_decide_eq_true z)]; exact c1, fun z i' hi => ?_, fun z => decide_eq_true (fx.mpr (z i (by omega)))⟩
        rcases (by omega : i' < i ∨ i' = i) with u | u
        · exact f2.mp rfl i' u
        · rw [u]; exact fx.mp (of_decide_eq_true z)
  exact key (nuE (cs k)) 0 q1 con true (by omega) l1 (g1.sub (fun _ _ z => Or.inl z)) i1 ((D.agr g1 (fun c k z p => (hW c k p).1 z)).cg (fun p q => ⟨Or.inl, fun z => by
    rcases z with z | ⟨i', hi, -⟩
    · exact z
    · omega⟩)) (fun z => ⟨fun _ => z, fun _ i' hi => absurd hi (Nat.not_lt_zero i'), fun _ => rfl⟩)
end BRING
