/-! L3: strokes (both sides); what is seen -/
section STJ
variable {gv : Nat → Int} {B n d : Nat} {h q : AH} {vw : Nat → Int}
theorem mdi {w m : Nat} : (0 ≤ (m : Int) * diW w ∧ (m : Int) * diW w ≤ m) ∧ (-(m : Int) ≤ (m : Int) * djW w ∧ (m : Int) * djW w ≤ m) ∧ (w ≠ 1 → (m : Int) * diW w = m) ∧ (w = 1 → (m : Int) * djW w = m) := by
  refine ⟨?_, ?_, fun z => by unfold diW; rw [if_neg z, Int.mul_one], fun z => by subst z; rw [show djW 1 = 1 from rfl, Int.mul_one]⟩
  · unfold diW
    by_cases z : w = 1
    · rw [if_pos z, Int.mul_zero]; omega
    · rw [if_neg z, Int.mul_one]; omega
  · unfold djW
    by_cases z : w = 0
    · rw [if_pos z, Int.mul_zero]; omega
    · rw [if_neg z]
      by_cases y : w = 3
      · rw [if_pos y, Int.mul_neg, Int.mul_one]; omega
      · rw [if_neg y, Int.mul_one]; omega
theorem msuc {m : Nat} {x : Int} : ((m + 1 : Nat) : Int) * x = (m : Int) * x + x := by
  rw [Int.natCast_add, Int.add_mul, Int.natCast_one, Int.one_mul]
/-- how far a stroke goes -/
def enM (n : Nat) (vw : Nat → Int) (w : Nat) (i j : Int) : Nat := ffI (fun m => !drW n vw w (i + (m : Int) * diW w) (j + (m : Int) * djW w)) (2 * n + 3) 0
theorem en_s {w : Nat} {i j : Int} (hi : 0 ≤ i) (hj : 0 ≤ j) : enM n vw w i j ≤ 2 * n + 1 ∧ drW n vw w (i + (enM n vw w i j : Int) * diW w) (j + (enM n vw w i j : Int) * djW w) = false ∧ ∀ m, m < enM n vw w i j → drW n vw w (i + (m : Int) * diW w) (j + (m : Int) * djW w) = true := by
  obtain ⟨a1, a2, a3, a4⟩ := ffI_s (f := fun m => !drW n vw w (i + (m : Int) * diW w) (j + (m : Int) * djW w)) (2 * n + 3) 0
  have all : ∀ m, m < enM n vw w i j → drW n vw w (i + (m : Int) * diW w) (j + (m : Int) * djW w) = true := fun m hm => by
    have e : (!drW n vw w (i + (m : Int) * diW w) (j + (m : Int) * djW w)) = false := a4 m (Nat.zero_le _) hm
    rw [Bool.not_eq_false'] at e; exact e
  have le : enM n vw w i j ≤ 2 * n + 1 := by
    apply Classical.byContradiction
    intro z
    have e := all (2 * n + 1) (by omega)
    rw [drB_hi] at e
    · exact Bool.false_ne_true e
    · obtain ⟨c1, c2, c3, c4⟩ := mdi (w := w) (m := 2 * n + 1)
      by_cases y : w = 1
      · have := c4 y; right; omega
      · have := c3 y; left; omega
  refine ⟨le, ?_, all⟩
  have e : (!drW n vw w (i + (enM n vw w i j : Int) * diW w) (j + (enM n vw w i j : Int) * djW w)) = true := a3 (by have := le; unfold enM at this; omega)
  rw [Bool.not_eq_true'] at e; exact e
theorem st_rng {w m M : Nat} {i j : Int} (hn : n ≤ 52) (hi : 0 ≤ i ∧ i ≤ 104) (hj : 0 ≤ j ∧ j ≤ 104) (s : ∀ m, m < M → drW n vw w (i + (m : Int) * diW w) (j + (m : Int) * djW w) = true) (hm : m ≤ M) : (-3 ≤ i + (m : Int) * diW w ∧ i + (m : Int) * diW w ≤ 200) ∧ (-3 ≤ j + (m : Int) * djW w ∧ j + (m : Int) * djW w ≤ 200) := by
  cases m with
  | zero => rw [show ((0 : Nat) : Int) = 0 from rfl, Int.zero_mul, Int.zero_mul]; omega
  | succ m =>
    have e := s m hm
    unfold drW dcW at e
    rw [Bool.and_eq_true, decide_eq_true_eq] at e
    obtain ⟨⟨e1, e2, e3, e4, e5, _⟩, _⟩ := e
    rw [msuc, msuc]
    obtain ⟨b1, b2, b3, b4⟩ := di_b (w := w)
    omega
/-- where strokes begin, in their order -/
def stkB (n : Nat) (vw : Nat → Int) (L : Nat) : Bool := drW n vw (L / ((2 * n + 1) * (2 * n + 1))) ((L % (2 * n + 1) : Nat) : Int) ((L / (2 * n + 1) % (2 * n + 1) : Nat) : Int) && !drW n vw (L / ((2 * n + 1) * (2 * n + 1))) (((L % (2 * n + 1) : Nat) : Int) - diW (L / ((2 * n + 1) * (2 * n + 1)))) (((L / (2 * n + 1) % (2 * n + 1) : Nat) : Int) - djW (L / ((2 * n + 1) * (2 * n + 1))))
def stkN (n : Nat) : Nat := rw3 (2 * n + 1) 4 0 0
theorem stB_at {w i j : Nat} (hi : i < 2 * n + 1) (hj : j < 2 * n + 1) : stkB n vw (rw3 (2 * n + 1) w j i) = (drW n vw w (i : Int) (j : Int) && !drW n vw w ((i : Int) - diW w) ((j : Int) - djW w)) := by
  unfold stkB
  rw [dec_t hj hi, dec_z hj hi, dec_y hi]
/-- the stroke found -/
def stE (n : Nat) (vw : Nat → Int) (w i j t : Nat) : Int := if t = 0 then (i : Int) else if t = 1 then (j : Int) else if t = 2 then (i : Int) + (enM n vw w i j : Int) * diW w else (j : Int) + (enM n vw w i j : Int) * djW w
/-- k is the number of the stroke that begins at i, j in way w -/
def StF (n : Nat) (vw : Nat → Int) (k : Int) (w i j : Nat) : Prop := w < 4 ∧ i < 2 * n + 1 ∧ j < 2 * n + 1 ∧ stkB n vw (rw3 (2 * n + 1) w j i) = true ∧ k = ((cntN (stkB n vw) (rw3 (2 * n + 1) w j i) : Nat) : Int)
theorem rw3_st {w i j : Nat} (hw : w < 4) (hi : i < 2 * n + 1) (hj : j < 2 * n + 1) : rw3 (2 * n + 1) w j i < stkN n := by
  have h1 : (w + 1) * (2 * n + 1) ≤ 4 * (2 * n + 1) := Nat.mul_le_mul_right (2 * n + 1) hw
  rw [Nat.add_mul, Nat.one_mul] at h1
  have h2 : (w * (2 * n + 1) + j + 1) * (2 * n + 1) ≤ 4 * (2 * n + 1) * (2 * n + 1) := Nat.mul_le_mul_right (2 * n + 1) (by omega)
  rw [Nat.add_mul, Nat.one_mul] at h2
  show (w * (2 * n + 1) + j) * (2 * n + 1) + i < 4 * (2 * n + 1) * (2 * n + 1)
  omega
theorem StF.lt {k : Int} {w i j : Nat} (s : StF n vw k w i j) : 0 ≤ k ∧ k < ((cntN (stkB n vw) (stkN n) : Nat) : Int) := by
  obtain ⟨a, b, c, e, f⟩ := s
  have c1 := cntN_s (stkB n vw) (rw3 (2 * n + 1) w j i)
  rw [e, if_pos rfl] at c1
  have c2 := cntN_mono (S := stkB n vw) (stkN n) (rw3_st a b c)
  have c2 : cntN (stkB n vw) (rw3 (2 * n + 1) w j i + 1) ≤ cntN (stkB n vw) (stkN n) := c2
  omega
theorem StF.uniq {k : Int} {w i j w' i' j' : Nat} (s : StF n vw k w i j) (s' : StF n vw k w' i' j') : w = w' ∧ i = i' ∧ j = j' := by
  obtain ⟨a, b, c, e, f⟩ := s
  obtain ⟨a', b', c', e', f'⟩ := s'
  have c1 := cntN_s (stkB n vw) (rw3 (2 * n + 1) w j i)
  rw [e, if_pos rfl] at c1
  have c1' := cntN_s (stkB n vw) (rw3 (2 * n + 1) w' j' i')
  rw [e', if_pos rfl] at c1'
  have eq : rw3 (2 * n + 1) w j i = rw3 (2 * n + 1) w' j' i' := by
    rcases (by omega : rw3 (2 * n + 1) w j i < rw3 (2 * n + 1) w' j' i' ∨ rw3 (2 * n + 1) w j i = rw3 (2 * n + 1) w' j' i' ∨ rw3 (2 * n + 1) w' j' i' < rw3 (2 * n + 1) w j i) with z | z | z
    · have c2 : cntN (stkB n vw) (rw3 (2 * n + 1) w j i + 1) ≤ cntN (stkB n vw) (rw3 (2 * n + 1) w' j' i') := cntN_mono (S := stkB n vw) _ z
      omega
    · exact z
    · have c2 : cntN (stkB n vw) (rw3 (2 * n + 1) w' j' i' + 1) ≤ cntN (stkB n vw) (rw3 (2 * n + 1) w j i) := cntN_mono (S := stkB n vw) _ z
      omega
  obtain ⟨x1, x2, x3⟩ := (rw3_inj c b c' b').mp eq
  exact ⟨x1, x3, x2⟩
theorem VsD.keep (l : LX B n h) (V : VsD B n h vw) (g : Agr (fun c k => c = B + 132 ∧ 10 ≤ k) h q) : VsD B n q vw := by
  obtain ⟨sh, a, b, c⟩ := V
  have ne : sh ≠ B + 132 := fun z => by
    rw [z, lk_132 l] at b
    have := congrArg Prod.fst b
    exact absurd this (show ¬ (1 : Nat) = 2 by decide)
  exact ⟨sh, by rw [g.at _ _ (by omega)]; exact a, by rw [g.hk]; exact b, fun p u v hp hu hv' => by rw [g.at _ _ (fun z => ne z.1)]; exact c p u v hp hu hv'⟩
theorem c_end463 {w i j : Nat} (l : LX B n h) (hd : 10 ≤ d) (hn : n ≤ 52) (V : VsD B n h vw) (hw : w < 4) (hi : i < 2 * n + 1) (hj : j < 2 * n + 1) :
    Vd (cll PP (ev PP (gsF gv) B) d 463 [(2, rf (B + 132)), (0, (w : Int)), (0, (i : Int)), (0, (j : Int)), (0, (diW w)), (0, (djW w))] h) (fun h' => Agr (fun c k => c = B + 132 ∧ 10 ≤ k) h h' ∧ hv h' (B + 132) 12 = (i : Int) ∧ hv h' (B + 132) 13 = (j : Int) ∧ hv h' (B + 132) 10 = stE n vw w i j 2 ∧ hv h' (B + 132) 11 = stE n vw w i j 3) := by
  obtain ⟨s1, s2, s3⟩ := en_s (n := n) (vw := vw) (w := w) (i := (i : Int)) (j := (j : Int)) (by omega) (by omega)
  obtain ⟨M, eM⟩ : ∃ M, M = enM n vw w i j := ⟨_, rfl⟩
  rw [← eM] at s1 s2 s3
  obtain ⟨b1, b2, b3, b4⟩ := di_b (w := w)
  refine Vd.inq (D := 9) hd (Nat.le_of_ble_eq_true rfl) rfl (fun d hd Q K => ?_)
  refine Ends.eq (b463_0 l (by omega)) ?_
  have key : ∀ (r m : Nat) (q : AH), m + r = M → LX B n q → Agr (fun c k => c = B + 132 ∧ 10 ≤ k) h q → hv q (B + 132) 12 = (i : Int) → hv q (B + 132) 13 = (j : Int) → hv q (B + 132) 10 = (i : Int) + (m : Int) * diW w → hv q (B + 132) 11 = (j : Int) + (m : Int) * djW w → Ends (ev PP (gsF gv) B d 463 20 [(2, rf (B + 132)), (0, (w : Int)), (0, (i : Int)), (0, (j : Int)), (0, diW w), (0, djW w)] [] q) Q := by
    intro r
    induction r with
    | zero =>
      intro m q e lq g e1 e2 e3 e4
      obtain rfl : m = M := by omega
      obtain ⟨m1, m2, -, -⟩ := mdi (w := w) (m := m)
      obtain ⟨q1, v1⟩ := v466_is (i := (i : Int) + (m : Int) * diW w) (j := (j : Int) + (m : Int) * djW w) hn (V.keep l g) hw (st_rng hn (by omega) (by omega) s3 (m := m) (by omega)).1 (st_rng hn (by omega) (by omega) s3 (m := m) (by omega)).2
      refine Ends.eq (b463_20 lq (by omega)) ?_
      rw [e3, e4, v1, s2, if_neg Bool.false_ne_true]
      refine Ends.g q1 (Ends.b0 (fun _ => Ends.sm (K _ ⟨g, e1, e2, ?_, ?_⟩)) (fun z => absurd rfl z))
      · rw [e3, eM]; rfl
      · rw [e4, eM]; rfl
    | succ r ih =>
      intro m q e lq g e1 e2 e3 e4
      obtain ⟨m1, m2, -, -⟩ := mdi (w := w) (m := m)
      obtain ⟨q1, v1⟩ := v466_is (i := (i : Int) + (m : Int) * diW w) (j := (j : Int) + (m : Int) * djW w) hn (V.keep l g) hw (st_rng hn (by omega) (by omega) s3 (m := m) (by omega)).1 (st_rng hn (by omega) (by omega) s3 (m := m) (by omega)).2
      refine Ends.eq (b463_20 lq (by omega)) ?_
      rw [e3, e4, v1, s3 m (by omega), if_pos rfl, add32 (by omega) (by omega), add32 (by omega) (by omega)]
      refine Ends.g q1 (Ends.b0 (fun z => absurd z (by decide)) (fun _ => ?_))
      refine ih (m + 1) _ (by omega) (LX.setF 132 11 (LX.setF 132 10 lq (by decide +kernel)) (by decide +kernel)) ((g.set ⟨rfl, by decide⟩).set ⟨rfl, by decide⟩) ?_ ?_ ?_ ?_
      · rw [hv_set_ne (by omega), hv_set_ne (by omega)]; exact e1
      · rw [hv_set_ne (by omega), hv_set_ne (by omega)]; exact e2
      · rw [hv_set_ne (by omega), hv_set_at, msuc, Int.add_assoc]
      · rw [hv_set_at, msuc, Int.add_assoc]
  have z0 : ((0 : Nat) : Int) = 0 := rfl
  refine key M 0 _ (Nat.zero_add _) (LX.setF 132 11 (LX.setF 132 10 (LX.setF 132 13 (LX.setF 132 12 l (by decide +kernel)) (by decide +kernel)) (by decide +kernel)) (by decide +kernel)) ((((Agr.rf.set ⟨rfl, by decide⟩).set ⟨rfl, by decide⟩).set ⟨rfl, by decide⟩).set ⟨rfl, by decide⟩) ?_ ?_ ?_ ?_
  · rw [hv_set_ne (by omega), hv_set_ne (by omega), hv_set_ne (by omega), hv_set_at]
  · rw [hv_set_ne (by omega), hv_set_ne (by omega), hv_set_at]
  · rw [hv_set_ne (by omega), hv_set_at, z0, Int.zero_mul, Int.add_zero]
  · rw [hv_set_at, z0, Int.zero_mul, Int.add_zero]
/-- the desk's view: made, or not yet -/
def VsC (B n : Nat) (h : AH) (vw : Nat → Int) : Prop := VsD B n h vw ∨ (hv h (B + 132) 4 = 0 ∧ ∀ p u v, p < 8 → u < n → v < n → vw (ixV n p u v) = -1)
theorem drB_none {w : Nat} {i j : Int} (e : ∀ p u v, p < 8 → u < n → v < n → vw (ixV n p u v) = -1) : drW n vw w i j = false := by
  have all : ∀ x y, shV n vw x y = -1 := fun x y => by
    unfold shV
    by_cases z : (0 ≤ x ∧ 0 ≤ y) ∧ (x < 8 * (n : Int) ∧ y < 8 * (n : Int))
    · rw [if_pos z]
      exact e _ _ _ (dp_all ⟨x.toNat % 8, Nat.mod_lt _ (by decide)⟩ ⟨y.toNat % 8, Nat.mod_lt _ (by decide)⟩).2 (by omega) (by omega)
    · rw [if_neg z]
  unfold drW
  rw [all, all, decide_eq_false (fun z => z rfl), Bool.and_false]
theorem c_stroke472 {k : Int} (l : LX B n h) (hd : 12 ≤ d) (hn : n ≤ 52) (V : VsC B n h vw) :
    Vt 0 (cll PP (ev PP (gsF gv) B) d 472 [(2, rf (B + 132)), (0, k)] h) (fun x h' => (∃ w i j, StF n vw k w i j ∧ x = 1 ∧ Agr (fun c k => c = B + 132 ∧ 10 ≤ k) h h' ∧ hv h' (B + 132) 12 = stE n vw w i j 0 ∧ hv h' (B + 132) 13 = stE n vw w i j 1 ∧ hv h' (B + 132) 10 = stE n vw w i j 2 ∧ hv h' (B + 132) 11 = stE n vw w i j 3) ∨ ((k < 0 ∨ ((cntN (stkB n vw) (stkN n) : Nat) : Int) ≤ k) ∧ x = (if k < 0 then ((cntN (stkB n vw) (stkN n) : Nat) : Int) else 0) ∧ h' = h)) := by
  refine Vt.inq (D := 11) hd (Nat.le_of_ble_eq_true rfl) rfl (fun d hd Q K => ?_)
  refine Ends.eq (b472_0 l (by omega)) ?_
  rcases V with V | ⟨z, e⟩
  rotate_left
  · have c0 : cntN (stkB n vw) (stkN n) = 0 := cntN_none _ (fun i _ => by unfold stkB; rw [drB_none e, Bool.false_and])
    rw [z]
    refine Ends.b0 (fun _ => Ends.sm (K _ _ (Or.inr ⟨by omega, ?_, rfl⟩))) (fun y => absurd rfl y)
    rw [c0]
    by_cases y : k < 0
    · rw [if_pos y]; rfl
    · rw [if_neg y]
  obtain ⟨sh, e4, -, -⟩ := id V
  have nz := rf_pos sh
  have n2 : bop32 104 (2 : Int) (n : Int) = 2 * (n : Int) := mul32 (by omega) (by omega)
  refine Ends.b0 (fun y => by rw [e4] at y; omega) (fun _ => ?_)
  have cle : ∀ L, cntN (stkB n vw) L ≤ L := cntN_le _
  have rl : stkN n < 100000 := by
    unfold stkN rw3
    have := Nat.mul_le_mul (show 2 * n + 1 ≤ 105 by omega) (show 2 * n + 1 ≤ 105 by omega)
    rw [Nat.add_zero, Nat.add_zero, Nat.mul_assoc]; omega
  have cbd : ∀ L, L < stkN n → cntN (stkB n vw) L < 100000 := fun L hL => by have := cle L; omega
  have ii : ∀ (w j : Nat), w < 4 → j < 2 * n + 1 → ((k < 0 ∨ ((cntN (stkB n vw) (rw3 (2 * n + 1) w j (2 * n + 1)) : Nat) : Int) ≤ k) → Ends (ev PP (gsF gv) B d 472 53 [(2, rf (B + 132)), (0, k), (0, ((cntN (stkB n vw) (rw3 (2 * n + 1) w j (2 * n + 1)) : Nat) : Int)), (0, (w : Int)), (0, diW w), (0, djW w), (0, ((j + 1 : Nat) : Int)), (0, ((2 * n + 1 : Nat) : Int))] [] h) Q) → ∀ (r i : Nat), i + r = 2 * n + 1 → (k < 0 ∨ ((cntN (stkB n vw) (rw3 (2 * n + 1) w j i) : Nat) : Int) ≤ k) → Ends (ev PP (gsF gv) B d 472 67 [(2, rf (B + 132)), (0, k), (0, ((cntN (stkB n vw) (rw3 (2 * n + 1) w j i) : Nat) : Int)), (0, (w : Int)), (0, diW w), (0, djW w), (0, (j : Int)), (0, (i : Int))] [] h) Q := by
    intro w j hw hj kn r
    induction r with
    | zero =>
      intro i e ck
      have e : i = 2 * n + 1 := by omega
      subst e
      refine Ends.eq (b472_67 l (by omega)) ?_
      rw [n2, w_succ (i := j) (by omega)]
      exact Ends.b4 (fun _ => kn ck) (fun z => by omega)
    | succ r ih =>
      intro i e ck
      have hi : i < 2 * n + 1 := by omega
      obtain ⟨b1, b2, b3, b4⟩ := di_b (w := w)
      have lt := rw3_st hw hi hj
      have sb := stB_at (n := n) (vw := vw) (w := w) hi hj
      have cs := cntN_s (stkB n vw) (rw3 (2 * n + 1) w j i)
      have cb := cbd _ lt
      obtain ⟨q1, v1⟩ := v466_is (i := (i : Int)) (j := (j : Int)) hn V hw (by omega) (by omega)
      obtain ⟨q2, v2⟩ := v466_is (i := (i : Int) - diW w) (j := (j : Int) - djW w) hn V hw (by omega) (by omega)
      have next : stkB n vw (rw3 (2 * n + 1) w j i) = false → Ends (ev PP (gsF gv) B d 472 134 [(2, rf (B + 132)), (0, k), (0, ((cntN (stkB n vw) (rw3 (2 * n + 1) w j i) : Nat) : Int)), (0, (w : Int)), (0, diW w), (0, djW w), (0, (j : Int)), (0, (i : Int))] [] h) Q := fun z => by
        rw [z, if_neg Bool.false_ne_true, Nat.add_zero] at cs
        refine Ends.eq (b472_134 l (by omega)) ?_
        rw [w_succ (i := i) (by omega)]
        have := ih (i + 1) (by omega)
        rw [show rw3 (2 * n + 1) w j (i + 1) = rw3 (2 * n + 1) w j i + 1 from rfl, cs] at this
        exact this ck
      refine Ends.eq (b472_67 l (by omega)) ?_
      rw [n2, v1, sub32 (x := (i : Int)) (by omega) (by omega), sub32 (x := (j : Int)) (by omega) (by omega), v2]
      refine Ends.b4 (fun z => by omega) (fun _ => Ends.g q1 ?_)
      cases d1 : drW n vw w (i : Int) (j : Int)
      · rw [if_neg Bool.false_ne_true]
        rw [d1, Bool.false_and] at sb
        exact Ends.b0 (fun _ => next sb) (fun z => absurd rfl z)
      · rw [if_pos rfl]
        refine Ends.b0 (fun z => absurd z (by decide)) (fun _ => Ends.g q2 ?_)
        cases d2 : drW n vw w ((i : Int) - diW w) ((j : Int) - djW w)
        · rw [if_neg Bool.false_ne_true]
          rw [d1, d2] at sb
          have sb : stkB n vw (rw3 (2 * n + 1) w j i) = true := sb
          rw [sb, if_pos rfl] at cs
          refine Ends.b0 (fun _ => Ends.b1 (fun z => ?_) (fun z => ?_)) (fun z => absurd rfl z)
          · refine Ends.eq (b472_134 l (by omega)) ?_
            rw [w_succ (i := i) (by omega), w_succ (i := cntN (stkB n vw) (rw3 (2 * n + 1) w j i)) (by omega)]
            have := ih (i + 1) (by omega)
            rw [show rw3 (2 * n + 1) w j (i + 1) = rw3 (2 * n + 1) w j i + 1 from rfl, cs] at this
            refine this ?_
            rcases ck with y | y
            · exact Or.inl y
            · right; omega
          · refine Ends.cv l (by decide +kernel) (c_end463 l (by omega) hn V hw hi hj) (fun h2 l2 _ _ _ ⟨g2, f1, f2, f3, f4⟩ => ?_)
            exact Ends.eq (b472_129 l2 (by omega)) (Ends.sm (K _ _ (Or.inl ⟨w, i, j, ⟨hw, hi, hj, sb, z.symm⟩, rfl, g2, f1, f2, f3, f4⟩)))
        · rw [if_pos rfl]
          rw [d1, d2] at sb
          exact Ends.b0 (fun z => absurd z (by decide)) (fun _ => next sb)
  have jj : ∀ (w : Nat), w < 4 → (∀ u7 : AV, (k < 0 ∨ ((cntN (stkB n vw) (rw3 (2 * n + 1) w (2 * n + 1) 0) : Nat) : Int) ≤ k) → Ends (ev PP (gsF gv) B d 472 13 [(2, rf (B + 132)), (0, k), (0, ((cntN (stkB n vw) (rw3 (2 * n + 1) w (2 * n + 1) 0) : Nat) : Int)), (0, ((w + 1 : Nat) : Int)), (0, diW w), (0, djW w), (0, ((2 * n + 1 : Nat) : Int)), u7] [] h) Q) → ∀ (r j : Nat) (u7 : AV), j + r = 2 * n + 1 → (k < 0 ∨ ((cntN (stkB n vw) (rw3 (2 * n + 1) w j 0) : Nat) : Int) ≤ k) → Ends (ev PP (gsF gv) B d 472 53 [(2, rf (B + 132)), (0, k), (0, ((cntN (stkB n vw) (rw3 (2 * n + 1) w j 0) : Nat) : Int)), (0, (w : Int)), (0, diW w), (0, djW w), (0, (j : Int)), u7] [] h) Q := by
    intro w hw kn r
    induction r with
    | zero =>
      intro j u7 e ck
      have e : j = 2 * n + 1 := by omega
      subst e
      refine Ends.eq (b472_53 l (by omega)) ?_
      rw [n2, w_succ (i := w) (by omega)]
      exact Ends.b4 (fun _ => kn _ ck) (fun z => by omega)
    | succ r ih =>
      intro j u7 e ck
      refine Ends.eq (b472_53 l (by omega)) ?_
      rw [n2]
      refine Ends.b4 (fun z => by omega) (fun _ => ?_)
      exact ii w j hw (by omega) (fun ck => by
        rw [← rw3_z] at ck ⊢
        exact ih (j + 1) _ (by omega) ck) (2 * n + 1) 0 (Nat.zero_add _) ck
  have ww : ∀ (r w : Nat) (u4 u5 u6 u7 : AV), w + r = 4 → (k < 0 ∨ ((cntN (stkB n vw) (rw3 (2 * n + 1) w 0 0) : Nat) : Int) ≤ k) → Ends (ev PP (gsF gv) B d 472 13 [(2, rf (B + 132)), (0, k), (0, ((cntN (stkB n vw) (rw3 (2 * n + 1) w 0 0) : Nat) : Int)), (0, (w : Int)), u4, u5, u6, u7] [] h) Q := by
    intro r
    induction r with
    | zero =>
      intro w u4 u5 u6 u7 e ck
      obtain rfl : w = 4 := by omega
      refine Ends.eq (b472_13 l (by omega)) (Ends.b3 (fun _ => Ends.sm (K _ _ (Or.inr ⟨ck, ?_, rfl⟩))) (fun z => absurd z (by decide)))
      rw [ct3]
      by_cases y : k < 0
      · rw [if_pos y, if_pos y]; rfl
      · rw [if_neg y, if_neg y]
    | succ r ih =>
      intro w u4 u5 u6 u7 e ck
      have hw : w < 4 := by omega
      obtain ⟨e1, e2⟩ := di_is hw
      refine Ends.eq (b472_13 l (by omega)) (Ends.b3 (fun z => by omega) (fun _ => ?_))
      rw [e1, e2]
      exact jj w hw (fun u7 ck => by
        rw [← rw3_t] at ck ⊢
        exact ih (w + 1) _ _ _ _ (by omega) ck) (2 * n + 1) 0 _ (Nat.zero_add _) ck
  have z0 : cntN (stkB n vw) (rw3 (2 * n + 1) 0 0 0) = 0 := by unfold rw3; simp [cntN]
  have st := ww 4 0 (9, 0) (9, 0) (9, 0) (9, 0) rfl (by rw [z0]; omega)
  rw [z0] at st
  exact st
theorem c_findStroke634 {k : Int} (l : LX B n h) (hd : 12 ≤ d) (hn : n ≤ 52) (V : VsM B n h vw) :
    Vt 0 (cll PP (ev PP (gsF gv) B) d 634 [(2, rf (B + 149)), (0, k)] h) (fun x h' => (∃ w i j, StF n vw k w i j ∧ x = -1 ∧ Agr (fun c k => c = B + 226 ∧ k < 4) h h' ∧ ∀ t, t < 4 → hv h' (B + 226) t = stE n vw w i j t) ∨ ((k < 0 ∨ ((cntN (stkB n vw) (stkN n) : Nat) : Int) ≤ k) ∧ x = ((cntN (stkB n vw) (stkN n) : Nat) : Int) ∧ h' = h)) := by
  refine Vt.inq (D := 11) hd (Nat.le_of_ble_eq_true rfl) rfl (fun d hd Q K => ?_)
  have hb0 := l.2.2
  refine Ends.eq (b634_0 l (by omega)) ?_
  have n2 : bop32 104 (2 : Int) (n : Int) = 2 * (n : Int) := mul32 (by omega) (by omega)
  have cle : ∀ L, cntN (stkB n vw) L ≤ L := cntN_le _
  have rl : stkN n < 100000 := by
    unfold stkN rw3
    have := Nat.mul_le_mul (show 2 * n + 1 ≤ 105 by omega) (show 2 * n + 1 ≤ 105 by omega)
    rw [Nat.add_zero, Nat.add_zero, Nat.mul_assoc]; omega
  have cbd : ∀ L, L < stkN n → cntN (stkB n vw) L < 100000 := fun L hL => by have := cle L; omega
  have ii : ∀ (w j : Nat), w < 4 → j < 2 * n + 1 → (∀ u8 : AV, (k < 0 ∨ ((cntN (stkB n vw) (rw3 (2 * n + 1) w j (2 * n + 1)) : Nat) : Int) ≤ k) → Ends (ev PP (gsF gv) B d 634 44 [(2, rf (B + 149)), (0, k), (0, ((cntN (stkB n vw) (rw3 (2 * n + 1) w j (2 * n + 1)) : Nat) : Int)), (0, (w : Int)), (0, diW w), (0, djW w), (0, ((j + 1 : Nat) : Int)), (0, ((2 * n + 1 : Nat) : Int)), u8] [] h) Q) → ∀ (r i : Nat) (u8 : AV), i + r = 2 * n + 1 → (k < 0 ∨ ((cntN (stkB n vw) (rw3 (2 * n + 1) w j i) : Nat) : Int) ≤ k) → Ends (ev PP (gsF gv) B d 634 58 [(2, rf (B + 149)), (0, k), (0, ((cntN (stkB n vw) (rw3 (2 * n + 1) w j i) : Nat) : Int)), (0, (w : Int)), (0, diW w), (0, djW w), (0, (j : Int)), (0, (i : Int)), u8] [] h) Q := by
    intro w j hw hj kn r
    induction r with
    | zero =>
      intro i u8 e ck
      have e : i = 2 * n + 1 := by omega
      subst e
      refine Ends.eq (b634_58 l (by omega)) ?_
      rw [n2, w_succ (i := j) (by omega)]
      exact Ends.b4 (fun _ => kn _ ck) (fun z => by omega)
    | succ r ih =>
      intro i u8 e ck
      have hi : i < 2 * n + 1 := by omega
      obtain ⟨b1, b2, b3, b4⟩ := di_b (w := w)
      have lt := rw3_st hw hi hj
      have sb := stB_at (n := n) (vw := vw) (w := w) hi hj
      have cs := cntN_s (stkB n vw) (rw3 (2 * n + 1) w j i)
      have cb := cbd _ lt
      have next : stkB n vw (rw3 (2 * n + 1) w j i) = false → Ends (ev PP (gsF gv) B d 634 189 [(2, rf (B + 149)), (0, k), (0, ((cntN (stkB n vw) (rw3 (2 * n + 1) w j i) : Nat) : Int)), (0, (w : Int)), (0, diW w), (0, djW w), (0, (j : Int)), (0, (i : Int)), u8] [] h) Q := fun z => by
        rw [z, if_neg Bool.false_ne_true, Nat.add_zero] at cs
        refine Ends.eq (b634_189 l (by omega)) ?_
        rw [w_succ (i := i) (by omega)]
        have := ih (i + 1) u8 (by omega)
        rw [show rw3 (2 * n + 1) w j (i + 1) = rw3 (2 * n + 1) w j i + 1 from rfl, cs] at this
        exact this ck
      refine Ends.eq (b634_58 l (by omega)) ?_
      rw [n2]
      refine Ends.b4 (fun z => by omega) (fun _ => ?_)
      refine Ends.ct l (by decide +kernel) (by decide) (c_isDrawn686 l (by omega) hn V hw (by omega) (by omega)) (fun x h2 l2 _ _ _ ⟨e2, ex⟩ => ?_)
      subst e2 ex
      refine Ends.eq (b634_78 l (by omega)) ?_
      cases d1 : drW n vw w (i : Int) (j : Int)
      · rw [if_neg Bool.false_ne_true]
        rw [d1, Bool.false_and] at sb
        exact Ends.b0 (fun _ => next sb) (fun z => absurd rfl z)
      · rw [if_pos rfl, sub32 (x := (i : Int)) (by omega) (by omega), sub32 (x := (j : Int)) (by omega) (by omega)]
        refine Ends.b0 (fun z => absurd z (by decide)) (fun _ => ?_)
        refine Ends.ct l (by decide +kernel) (by decide) (c_isDrawn686 l (by omega) hn V hw (by omega) (by omega)) (fun x h3 l3 _ _ _ ⟨e3, ex⟩ => ?_)
        subst e3 ex
        refine Ends.eq (b634_96 l (by omega)) ?_
        cases d2 : drW n vw w ((i : Int) - diW w) ((j : Int) - djW w)
        · rw [if_neg Bool.false_ne_true]
          rw [d1, d2] at sb
          have sb : stkB n vw (rw3 (2 * n + 1) w j i) = true := sb
          rw [sb, if_pos rfl] at cs
          refine Ends.b0 (fun _ => Ends.b1 (fun z => ?_) (fun z => ?_)) (fun z => absurd rfl z)
          · refine Ends.eq (b634_189 l (by omega)) ?_
            rw [w_succ (i := i) (by omega), w_succ (i := cntN (stkB n vw) (rw3 (2 * n + 1) w j i)) (by omega)]
            have := ih (i + 1) u8 (by omega)
            rw [show rw3 (2 * n + 1) w j (i + 1) = rw3 (2 * n + 1) w j i + 1 from rfl, cs] at this
            refine this ?_
            rcases ck with y | y
            · exact Or.inl y
            · right; omega
          · obtain ⟨s1, s2, s3⟩ := en_s (n := n) (vw := vw) (w := w) (i := (i : Int)) (j := (j : Int)) (by omega) (by omega)
            obtain ⟨M, eM⟩ : ∃ M, M = enM n vw w i j := ⟨_, rfl⟩
            rw [← eM] at s1 s2 s3
            have m1 : 1 ≤ M := by
              apply Classical.byContradiction
              intro y
              have : M = 0 := by omega
              rw [this, show ((0 : Nat) : Int) = 0 from rfl, Int.zero_mul, Int.zero_mul, Int.add_zero, Int.add_zero, d1] at s2
              exact Bool.false_ne_true s2.symm
            have walk : ∀ (r m : Nat), m + r = M → 1 ≤ m → Ends (ev PP (gsF gv) B d 634 110 [(2, rf (B + 149)), (0, k), (0, ((cntN (stkB n vw) (rw3 (2 * n + 1) w j i) : Nat) : Int)), (0, (w : Int)), (0, diW w), (0, djW w), (0, (j : Int)), (0, (i : Int)), (0, (m : Int))] [] h3) Q := by
              intro r
              induction r with
              | zero =>
                intro m e hm
                obtain rfl : m = M := by omega
                obtain ⟨y1, y2, -, -⟩ := mdi (w := w) (m := m)
                have t1 : ∀ _ : Unit, bop32 96 (i : Int) (bop32 104 (m : Int) (diW w)) = (i : Int) + (m : Int) * diW w := fun _ => by rw [mul32 (by omega) (by omega), add32 (by omega) (by omega)]
                have t2 : ∀ _ : Unit, bop32 96 (j : Int) (bop32 104 (m : Int) (djW w)) = (j : Int) + (m : Int) * djW w := fun _ => by rw [mul32 (by omega) (by omega), add32 (by omega) (by omega)]
                refine Ends.eq (b634_110 l (by omega)) ?_
                rw [t1 (), t2 ()]
                refine Ends.ct l (by decide +kernel) (by decide) (c_isDrawn686 l (by omega) hn V hw (st_rng hn (by omega) (by omega) s3 (m := m) (by omega)).1 (st_rng hn (by omega) (by omega) s3 (m := m) (by omega)).2) (fun x h4 l4 _ _ _ ⟨e4, ex⟩ => ?_)
                subst e4 ex
                refine Ends.eq (b634_131 l (by omega)) ?_
                rw [s2, if_neg Bool.false_ne_true, t1 (), t2 ()]
                clear t1 t2
                refine Ends.b0 (fun _ => Ends.g ⟨by decide, by decide⟩ (Ends.g ⟨by decide, by decide⟩ (Ends.g ⟨by decide, by decide⟩ (Ends.g ⟨by decide, by decide⟩ (Ends.sm (K _ _ (Or.inl ⟨w, i, j, ⟨hw, hi, hj, sb, z.symm⟩, rfl, ?_, fun t ht => ?_⟩))))))) (fun z => absurd rfl z)
                · exact (((Agr.rf.set ⟨rfl, by decide⟩).set ⟨rfl, by decide⟩).set ⟨rfl, by decide⟩).set ⟨rfl, by decide⟩
                · rcases (by omega : t = 0 ∨ t = 1 ∨ t = 2 ∨ t = 3) with y | y | y | y
                  · subst y
                    rw [hv_set_ne (by omega), hv_set_ne (by omega), hv_set_ne (by omega)]
                    exact hv_set_at ..
                  · subst y
                    rw [hv_set_ne (by omega), hv_set_ne (by omega)]
                    exact hv_set_at ..
                  · subst y
                    rw [hv_set_ne (by omega)]
                    refine (hv_set_at ..).trans ?_
                    rw [an0, eM]; rfl
                  · subst y
                    refine (hv_set_at ..).trans ?_
                    rw [an0, eM]; rfl
              | succ r ih2 =>
                intro m e hm
                obtain ⟨y1, y2, -, -⟩ := mdi (w := w) (m := m)
                have t1 : ∀ _ : Unit, bop32 96 (i : Int) (bop32 104 (m : Int) (diW w)) = (i : Int) + (m : Int) * diW w := fun _ => by rw [mul32 (by omega) (by omega), add32 (by omega) (by omega)]
                have t2 : ∀ _ : Unit, bop32 96 (j : Int) (bop32 104 (m : Int) (djW w)) = (j : Int) + (m : Int) * djW w := fun _ => by rw [mul32 (by omega) (by omega), add32 (by omega) (by omega)]
                refine Ends.eq (b634_110 l (by omega)) ?_
                rw [t1 (), t2 ()]
                refine Ends.ct l (by decide +kernel) (by decide) (c_isDrawn686 l (by omega) hn V hw (st_rng hn (by omega) (by omega) s3 (m := m) (by omega)).1 (st_rng hn (by omega) (by omega) s3 (m := m) (by omega)).2) (fun x h4 l4 _ _ _ ⟨e4, ex⟩ => ?_)
                subst e4 ex
                refine Ends.eq (b634_131 l (by omega)) ?_
                rw [s3 m (by omega), if_pos rfl, w_succ (i := m) (by omega)]
                exact Ends.b0 (fun z => absurd z (by decide)) (fun _ => ih2 (m + 1) (by omega) (by omega))
            exact walk (M - 1) 1 (by omega) (Nat.le_refl _)
        · rw [if_pos rfl]
          rw [d1, d2] at sb
          exact Ends.b0 (fun z => absurd z (by decide)) (fun _ => next sb)
  have jj : ∀ (w : Nat), w < 4 → (∀ u7 u8 : AV, (k < 0 ∨ ((cntN (stkB n vw) (rw3 (2 * n + 1) w (2 * n + 1) 0) : Nat) : Int) ≤ k) → Ends (ev PP (gsF gv) B d 634 4 [(2, rf (B + 149)), (0, k), (0, ((cntN (stkB n vw) (rw3 (2 * n + 1) w (2 * n + 1) 0) : Nat) : Int)), (0, ((w + 1 : Nat) : Int)), (0, diW w), (0, djW w), (0, ((2 * n + 1 : Nat) : Int)), u7, u8] [] h) Q) → ∀ (r j : Nat) (u7 u8 : AV), j + r = 2 * n + 1 → (k < 0 ∨ ((cntN (stkB n vw) (rw3 (2 * n + 1) w j 0) : Nat) : Int) ≤ k) → Ends (ev PP (gsF gv) B d 634 44 [(2, rf (B + 149)), (0, k), (0, ((cntN (stkB n vw) (rw3 (2 * n + 1) w j 0) : Nat) : Int)), (0, (w : Int)), (0, diW w), (0, djW w), (0, (j : Int)), u7, u8] [] h) Q := by
    intro w hw kn r
    induction r with
    | zero =>
      intro j u7 u8 e ck
      have e : j = 2 * n + 1 := by omega
      subst e
      refine Ends.eq (b634_44 l (by omega)) ?_
      rw [n2, w_succ (i := w) (by omega)]
      exact Ends.b4 (fun _ => kn _ _ ck) (fun z => by omega)
    | succ r ih =>
      intro j u7 u8 e ck
      refine Ends.eq (b634_44 l (by omega)) ?_
      rw [n2]
      refine Ends.b4 (fun z => by omega) (fun _ => ?_)
      exact ii w j hw (by omega) (fun u8 ck => by
        rw [← rw3_z] at ck ⊢
        exact ih (j + 1) _ _ (by omega) ck) (2 * n + 1) 0 _ (Nat.zero_add _) ck
  have ww : ∀ (r w : Nat) (u4 u5 u6 u7 u8 : AV), w + r = 4 → (k < 0 ∨ ((cntN (stkB n vw) (rw3 (2 * n + 1) w 0 0) : Nat) : Int) ≤ k) → Ends (ev PP (gsF gv) B d 634 4 [(2, rf (B + 149)), (0, k), (0, ((cntN (stkB n vw) (rw3 (2 * n + 1) w 0 0) : Nat) : Int)), (0, (w : Int)), u4, u5, u6, u7, u8] [] h) Q := by
    intro r
    induction r with
    | zero =>
      intro w u4 u5 u6 u7 u8 e ck
      obtain rfl : w = 4 := by omega
      exact Ends.eq (b634_4 l (by omega)) (Ends.b3 (fun _ => Ends.sm (K _ _ (Or.inr ⟨ck, rfl, rfl⟩))) (fun z => absurd z (by decide)))
    | succ r ih =>
      intro w u4 u5 u6 u7 u8 e ck
      have hw : w < 4 := by omega
      obtain ⟨e1, e2⟩ := di_is hw
      refine Ends.eq (b634_4 l (by omega)) (Ends.b3 (fun z => by omega) (fun _ => ?_))
      rw [e1, e2]
      exact jj w hw (fun u7 u8 ck => by
        rw [← rw3_t] at ck ⊢
        exact ih (w + 1) _ _ _ _ _ (by omega) ck) (2 * n + 1) 0 _ _ (Nat.zero_add _) ck
  have z0 : cntN (stkB n vw) (rw3 (2 * n + 1) 0 0 0) = 0 := by unfold rw3; simp [cntN]
  have st := ww 4 0 (9, 0) (9, 0) (9, 0) (9, 0) (9, 0) rfl (by rw [z0]; omega)
  rw [z0] at st
  exact st
/-- how many pieces show a face -/
def seN (n : Nat) (vw : Nat → Int) (k : Int) : Nat := if k < 0 then 0 else cntN (fun j => decide (vw j = k)) (8 * n * n)
theorem seC {vw : Nat → Int} {k : Int} {i : Nat} (h8 : cntN (fun j => decide (vw j = k)) i < 30000) : bop32 96 ((cntN (fun j => decide (vw j = k)) i : Nat) : Int) (cond (tst 1 (vw i) k) (0 : Int) 1) = ((cntN (fun j => decide (vw j = k)) (i + 1) : Nat) : Int) := by
  rw [cntN_s, ct1]
  by_cases z : vw i = k
  · rw [if_pos z, decide_eq_true z, if_pos rfl]; exact addNN (y := 1) (by omega)
  · rw [if_neg z, decide_eq_false z, if_neg Bool.false_ne_true]; exact addNN (y := 0) (by omega)
theorem c_vseen469 {k : Int} (l : LX B n h) (hd : 10 ≤ d) (hn0 : 0 < n) (hn : n ≤ 52) (V : VsC B n h vw) :
    Vt 0 (cll PP (ev PP (gsF gv) B) d 469 [(2, rf (B + 132)), (0, k)] h) (fun x h' => x = ((seN n vw k : Nat) : Int) ∧ h' = h) := by
  obtain ⟨e88, n8⟩ := n88 hn
  refine Vt.inq (D := 9) hd (Nat.le_of_ble_eq_true rfl) rfl (fun d hd Q K => ?_)
  refine Ends.eq (b469_0 l (by omega)) ?_
  rcases V with ⟨sh, e4, ks, ev'⟩ | ⟨z, e⟩
  rotate_left
  · refine Ends.eq (b469_4 l (by omega)) ?_
    rw [z]
    refine Ends.b0 (fun _ => Ends.eq (b469_55 l (by omega)) (Ends.sm (K _ _ ⟨?_, rfl⟩))) (fun y => absurd rfl y)
    have : seN n vw k = 0 := by
      unfold seN
      by_cases y : k < 0
      · rw [if_pos y]
      · rw [if_neg y]
        refine cntN_none _ (fun i hi => ?_)
        obtain ⟨p, u, v, hp, hu, hv', ej⟩ := ixV_ex hn0 hi
        rw [ej, e p u v hp hu hv']
        exact decide_eq_false (by omega)
    rw [this]; rfl
  have nz := rf_pos sh
  have cells : ∀ i, i < 8 * n * n → hv h sh i = vw i := fun i hi => by
    obtain ⟨p, u, v, hp, hu, hv', ej⟩ := ixV_ex hn0 hi
    rw [ej]; exact ev' p u v hp hu hv'
  have key : ∀ (r i : Nat), i + r = 8 * n * n → Ends (ev PP (gsF gv) B d 469 4 [(2, rf (B + 132)), (0, k), (0, ((if k < 0 then 0 else cntN (fun j => decide (vw j = k)) i : Nat) : Int)), (0, (i : Int))] [] h) Q := by
    intro r
    induction r with
    | zero =>
      intro i e
      obtain rfl : i = 8 * n * n := by omega
      refine Ends.eq (b469_4 l (by omega)) ?_
      rw [e4, e88]
      exact Ends.b0 (fun y => by omega) (fun _ => Ends.b3 (fun _ => Ends.eq (b469_55 l (by omega)) (Ends.sm (K _ _ ⟨rfl, rfl⟩))) (fun z => absurd z (Int.lt_irrefl _)))
    | succ r ih =>
      intro i e
      have hi : i < 8 * n * n := by omega
      refine Ends.eq (b469_4 l (by omega)) ?_
      rw [e4, e88, ad_rf, ks, tn, cells i hi, w_succ (i := i) (by omega), ct2, ct2]
      refine Ends.b0 (fun y => by omega) (fun _ => Ends.b3 (fun z => by omega) (fun _ => ?_))
      have := ih (i + 1) (by omega)
      by_cases z : k < 0
      · rw [if_pos z] at this ⊢
        rw [if_pos z, if_pos z]
        exact Ends.g trivial this
      · rw [if_neg z] at this ⊢
        rw [if_neg z, if_neg z, seC (by have := cntN_le (fun j => decide (vw j = k)) i; omega)]
        exact Ends.g ⟨nz, rfl, by omega, by show (i : Int) < ((8 * n * n : Nat) : Int); omega⟩ this
  have := key (8 * n * n) 0 (Nat.zero_add _)
  by_cases z : k < 0
  · rw [if_pos z] at this; exact this
  · rw [if_neg z] at this; exact this
theorem c_seen816 {k : Int} (l : LX B n h) (hd : 10 ≤ d) (hn0 : 0 < n) (hn : n ≤ 52) (V : VsM B n h vw) :
    Vt 0 (cll PP (ev PP (gsF gv) B) d 816 [(2, rf (B + 149)), (0, k)] h) (fun x h' => x = ((seN n vw k : Nat) : Int) ∧ h' = hset h (B + 149) 0 0) := by
  obtain ⟨e88, n8⟩ := n88 hn
  refine Vt.inq (D := 9) hd (Nat.le_of_ble_eq_true rfl) rfl (fun d hd Q K => ?_)
  refine Ends.eq (b816_0 l (by omega)) ?_
  have l2 : LX B n (hset h (B + 149) 0 0) := LX.setF 149 0 l (by decide +kernel)
  have cells : ∀ i, i < 8 * n * n → hv (hset h (B + 149) 0 0) (B + 242) i = vw i := fun i hi => by
    obtain ⟨p, u, v, hp, hu, hv', ej⟩ := ixV_ex hn0 hi
    rw [hv_set_ne (by omega), ej]; exact V p u v hp hu hv'
  have K2 := fun x e => K x (hset h (B + 149) 0 0) ⟨e, rfl⟩
  clear K
  generalize hset h (B + 149) 0 0 = h2 at *
  have key : ∀ (r i : Nat), i + r = 8 * n * n → 0 ≤ k → Ends (ev PP (gsF gv) B d 816 9 [(2, rf (B + 149)), (0, k), (0, ((cntN (fun j => decide (vw j = k)) i : Nat) : Int)), (0, (i : Int))] [] h2) Q := by
    intro r
    induction r with
    | zero =>
      intro i e hk0
      obtain rfl : i = 8 * n * n := by omega
      refine Ends.eq (b816_9 l2 (by omega)) (Ends.b3 (fun _ => Ends.eq (b816_46 l2 (by omega)) (Ends.sm (K2 _ ?_))) (fun z => absurd z (Int.lt_irrefl _)))
      unfold seN; rw [if_neg (by omega)]
    | succ r ih =>
      intro i e hk0
      have hi : i < 8 * n * n := by omega
      refine Ends.eq (b816_9 l2 (by omega)) (Ends.b3 (fun z => by omega) (fun _ => Ends.b2 (fun z => by omega) (fun _ => Ends.g ⟨by omega, by omega⟩ ?_)))
      rw [tn, cells i hi, w_succ (i := i) (by omega), seC (by have := cntN_le (fun j => decide (vw j = k)) i; omega)]
      exact ih (i + 1) (by omega) hk0
  by_cases z : 0 ≤ k
  · exact key (8 * n * n) 0 (Nat.zero_add _) z
  · refine Ends.eq (b816_9 l2 (by omega)) (Ends.b3 (fun y => by have := Nat.mul_pos (show 0 < 8 * n by omega) hn0; omega) (fun _ => Ends.b2 (fun _ => Ends.eq (b816_46 l2 (by omega)) (Ends.sm (K2 _ ?_))) (fun y => by omega)))
    unfold seN; rw [if_pos (by omega)]; rfl
end STJ
