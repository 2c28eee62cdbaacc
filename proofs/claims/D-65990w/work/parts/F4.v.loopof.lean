/-! L3: loops: how many lines, how large, how deep (both sides) -/
noncomputable section LOF
variable {gv : Nat → Int} {B n d : Nat} {h : AH} {lv : Nat → Bool} {U0 V0 U1 V1 DU DV SZ LA : Nat → Int} {k m l f l0 : Nat} {u v w x y : Int}
/-- lines of the loop of line l -/
def cnB (lv : Nat → Bool) (U0 V0 U1 V1 : Nat → Int) (l m : Nat) : Bool := @decide (ConL lv U0 V0 U1 V1 l m) (Classical.propDecidable _)
theorem cnB_t : cnB lv U0 V0 U1 V1 l m = true ↔ ConL lv U0 V0 U1 V1 l m := by unfold cnB; exact @decide_eq_true_iff _ (Classical.propDecidable _)
/-- loops that are about line l's start -/
def dpB (lv : Nat → Bool) (U0 V0 U1 V1 DU DV : Nat → Int) (l l' : Nat) : Bool := lsB lv U0 V0 U1 V1 l' && (decide (l' ≠ l) && decide (cntN (fun m => cnB lv U0 V0 U1 V1 l' m && cxB U0 V0 V1 DU DV 8 (8 * U0 l) (8 * V0 l) m) 24 % 2 = 1))
/-- what is asked of a loop -/
def LoR (lv : Nat → Bool) (U0 V0 U1 V1 DU DV : Nat → Int) (l : Nat) (w x : Int) : Prop := (w = 0 ∧ x = ((cntN (cnB lv U0 V0 U1 V1 l) 24 : Nat) : Int)) ∨ (w = 1 ∧ ∃ y, ArF lv U0 V0 U1 V1 l 24 l (U1 l) (V1 l) (U0 l * V1 l - V0 l * U1 l) y ∧ x = if y < 0 then -y else y) ∨ (w ≠ 0 ∧ w ≠ 1 ∧ x = ((cntN (dpB lv U0 V0 U1 V1 DU DV l) 24 : Nat) : Int))
theorem LoR.uniq (G : GrP lv U0 V0 U1 V1) (lk : lv l = true) (h1 : LoR lv U0 V0 U1 V1 DU DV l w x) (h2 : LoR lv U0 V0 U1 V1 DU DV l w y) : x = y := by
  rcases h1 with ⟨a1, a2⟩ | ⟨a1, a, a2, a3⟩ | ⟨a1, a2, a3⟩ <;> rcases h2 with ⟨b1, b2⟩ | ⟨b1, b, b2, b3⟩ | ⟨b1, b2, b3⟩
  · rw [a2, b2]
  · omega
  · omega
  · omega
  · rw [a3, b3, ArF.uniq G 24 24 _ _ _ _ _ _ _ (TrI.start G lk) a2 b2]
  · omega
  · omega
  · omega
  · rw [a3, b3]
theorem v886_big (h1 : -300000 ≤ x) (h2 : x ≤ 300000) : v886 x = if x < 0 then -x else x := by
  unfold v886
  rw [ct3]
  by_cases z : x < 0
  · rw [if_pos z, if_pos z]; exact neg32 (by omega) (by omega)
  · rw [if_neg z, if_neg z]
/-- the mark of a line is that of its first one -/
theorem LbD.lab {q : AH} (L : LbD B q lv U0 V0 U1 V1) (hl : ∀ k, lv k = true → k < 24) (pl : lstP lv U0 V0 U1 V1 l) (hm : m < 24) : hv q (B + 76) m = ((cntN (lsB lv U0 V0 U1 V1) l : Nat) : Int) ↔ ConL lv U0 V0 U1 V1 l m := by
  obtain ⟨a, b⟩ := L.2 m hm
  constructor
  · intro e
    cases lm : lv m
    · rw [a lm] at e; omega
    · obtain ⟨l', h1, h2, h3⟩ := lead (U0 := U0) (V0 := V0) (U1 := U1) (V1 := V1) m lm
      rw [b l' h2 h3] at e
      rw [← cnt_inj (lsB_t.mpr h2) (lsB_t.mpr pl) (by omega)]
      exact h3
  · exact fun c => b l pl c
theorem LbM.lab {q : AH} (L : LbM B q lv U0 V0 U1 V1) (pl : lstP lv U0 V0 U1 V1 l) (lm : lv m = true) : hv q (B + 176) (cntN lv m) = ((cntN lv l : Nat) : Int) ↔ ConL lv U0 V0 U1 V1 l m := by
  constructor
  · intro e
    obtain ⟨l', h1, h2, h3⟩ := lead (U0 := U0) (V0 := V0) (U1 := U1) (V1 := V1) m lm
    rw [L m lm l' h2 h3] at e
    rw [← cnt_inj h2.1 pl.1 (by omega)]
    exact h3
  · exact fun c => L m lm l pl c
theorem wi_cn {q : AH} (L : LbD B q lv U0 V0 U1 V1) (hl : ∀ k, lv k = true → k < 24) (pl : lstP lv U0 V0 U1 V1 l) : ∀ N, N ≤ 24 → cntN (wiD lv (fun k => hv q (B + 76) k) U0 V0 V1 DU DV u v ((cntN (lsB lv U0 V0 U1 V1) l : Nat) : Int)) N = cntN (fun m => cnB lv U0 V0 U1 V1 l m && cxB U0 V0 V1 DU DV 8 u v m) N
  | 0, _ => rfl
  | N + 1, hN => by
    rw [cntN_s, cntN_s, wi_cn L hl pl N (by omega)]
    have e : wiD lv (fun k => hv q (B + 76) k) U0 V0 V1 DU DV u v ((cntN (lsB lv U0 V0 U1 V1) l : Nat) : Int) N = (cnB lv U0 V0 U1 V1 l N && cxB U0 V0 V1 DU DV 8 u v N) := by
      unfold wiD
      rw [decide_eq_false (show ¬ ((cntN (lsB lv U0 V0 U1 V1) l : Nat) : Int) < 0 by omega), Bool.false_or]
      congr 1
      refine Bool.eq_iff_iff.mpr ?_
      rw [Bool.and_eq_true, decide_eq_true_eq, cnB_t, L.lab hl pl (by omega)]
      exact ⟨fun z => z.2, fun z => ⟨z.live pl.1, z⟩⟩
    rw [e]
set_option maxHeartbeats 2000000 in
theorem c_loopOf421 (l : LX B n h) (hd : 12 ≤ d) (Sg : SgD B h lv U0 V0 U1 V1) (G : GrP lv U0 V0 U1 V1) (b : BdL lv U0 V0 U1 V1) (hl : ∀ k, lv k = true → (hv h (B + 73) k = DU k ∧ hv h (B + 74) k = DV k) ∧ D8 (DU k) (DV k)) (L : LbD B h lv U0 V0 U1 V1) (pl : lstP lv U0 V0 U1 V1 l0) : Vt 0 (cll PP (ev PP (gsF gv) B) d 421 [(2, rf (B + 56)), (0, ((cntN (lsB lv U0 V0 U1 V1) l0 : Nat) : Int)), (0, w)] h) (fun x h' => h' = h ∧ LoR lv U0 V0 U1 V1 DU DV l0 w x) := by
  refine Vt.inq (D := 11) hd (Nat.le_of_ble_eq_true rfl) rfl (fun d hd Q K => ?_)
  have l24 := (G l0 pl.1).1.1
  have hl24 : ∀ k, lv k = true → k < 24 := fun k lk => (G k lk).1.1
  obtain ⟨kk, ekk⟩ : ∃ kk, kk = cntN (lsB lv U0 V0 U1 V1) l0 := ⟨_, rfl⟩
  have k24 : kk ≤ 24 := by rw [ekk]; have := cntN_le (lsB lv U0 V0 U1 V1) l0; omega
  have lab : ∀ i, i < 24 → (hv h (B + 76) i = (kk : Int) ↔ ConL lv U0 V0 U1 V1 l0 i) := fun i hi => by rw [ekk]; exact L.lab hl24 pl hi
  -- how many lines
  have many : ∀ (r i : Nat), i + r = 24 → w = 0 → Ends (ev PP (gsF gv) B d 421 28 [(2, rf (B + 56)), (0, (kk : Int)), (0, w), (0, (l0 : Int)), (0, ((cntN (cnB lv U0 V0 U1 V1 l0) i : Nat) : Int)), (0, (i : Int))] [] h) Q := by
    intro r
    induction r with
    | zero =>
      intro i ei w0
      obtain rfl : i = 24 := by omega
      refine Ends.eq (b421_28 (n := n) (by (repeat' first | assumption | refine LX.setF _ _ ?_ (by decide +kernel) | refine LX.setS ?_ rfl | refine LX.setA ?_ (by first | assumption | omega))) (by first | assumption | omega)) ?_
      exact Ends.b3 (fun _ => Ends.sm (K _ _ ⟨rfl, Or.inl ⟨w0, rfl⟩⟩)) (fun z => absurd z (by decide))
    | succ r ih =>
      intro i ei w0
      have ci := cntN_le (cnB lv U0 V0 U1 V1 l0) i
      refine Ends.eq (b421_28 (n := n) (by (repeat' first | assumption | refine LX.setF _ _ ?_ (by decide +kernel) | refine LX.setS ?_ rfl | refine LX.setA ?_ (by first | assumption | omega))) (by first | assumption | omega)) ?_
      rw [tn, ct1, w_succ (by omega)]
      refine Ends.b3 (fun z => absurd z (by omega)) (fun _ => Ends.g ⟨by omega, by omega⟩ ?_)
      have e : bop32 96 ((cntN (cnB lv U0 V0 U1 V1 l0) i : Nat) : Int) (if hv h (B + 76) i = (kk : Int) then 1 else 0) = ((cntN (cnB lv U0 V0 U1 V1 l0) (i + 1) : Nat) : Int) := by
        rw [cntN_s]
        by_cases z : hv h (B + 76) i = (kk : Int)
        · rw [if_pos z, if_pos (cnB_t.mpr ((lab i (by omega)).mp z))]
          exact addNN (y := 1) (by omega)
        · rw [if_neg z, if_neg (fun y => z ((lab i (by omega)).mpr (cnB_t.mp y)))]
          exact addNN (y := 0) (by omega)
      rw [e]
      exact ih (i + 1) (by omega) w0
  -- how deep
  obtain ⟨P, eP⟩ : ∃ P : Nat → Bool, ∀ k, lsB lv U0 V0 U1 V1 k = true → P (cntN (lsB lv U0 V0 U1 V1) k) = dpB lv U0 V0 U1 V1 DU DV l0 k := by
    refine ⟨fun i => @decide (∃ k, lsB lv U0 V0 U1 V1 k = true ∧ cntN (lsB lv U0 V0 U1 V1) k = i ∧ dpB lv U0 V0 U1 V1 DU DV l0 k = true) (Classical.propDecidable _), fun k lk => ?_⟩
    cases z : dpB lv U0 V0 U1 V1 DU DV l0 k
    · exact @decide_eq_false _ (Classical.propDecidable _) (fun ⟨k', h1, h2, h3⟩ => by rw [cnt_inj h1 lk h2, z] at h3; cases h3)
    · exact @decide_eq_true _ (Classical.propDecidable _) ⟨k, lk, rfl, z⟩
  have fin : cntN P (cntN (lsB lv U0 V0 U1 V1) 24) = cntN (dpB lv U0 V0 U1 V1 DU DV l0) 24 := cnt_ml eP (fun k z => by unfold dpB; rw [z]; rfl)
  obtain ⟨-, s2⟩ := Sg l0 l24
  obtain ⟨s1, s2, s3, s4⟩ := s2 pl.1
  have b0 := b l0 pl.1
  unfold in64 at b0
  have e1 : bop32 104 8 (U0 l0) = 8 * U0 l0 := mul32 (by omega) (by omega)
  have e2 : bop32 104 8 (V0 l0) = 8 * V0 l0 := mul32 (by omega) (by omega)
  have c24 := cntN_le (lsB lv U0 V0 U1 V1) 24
  have deep : w ≠ 0 → w ≠ 1 → ∀ (r i : Nat), i + r = cntN (lsB lv U0 V0 U1 V1) 24 → Ends (ev PP (gsF gv) B d 421 85 [(2, rf (B + 56)), (0, (kk : Int)), (0, w), (0, (l0 : Int)), (0, ((cntN P i : Nat) : Int)), (0, (i : Int))] [] h) Q := by
    intro w0 w1 r
    induction r with
    | zero =>
      intro i ei
      obtain rfl : i = cntN (lsB lv U0 V0 U1 V1) 24 := by omega
      refine Ends.eq (b421_85 (n := n) (by (repeat' first | assumption | refine LX.setF _ _ ?_ (by decide +kernel) | refine LX.setS ?_ rfl | refine LX.setA ?_ (by first | assumption | omega))) (by first | assumption | omega)) ?_
      rw [L.1, fin]
      exact Ends.b3 (fun _ => Ends.sm (K _ _ ⟨rfl, Or.inr (Or.inr ⟨w0, w1, rfl⟩)⟩)) (fun z => absurd z (Int.lt_irrefl _))
    | succ r ih =>
      intro i ei
      obtain ⟨l', hl', ll', cl'⟩ := cnt_at (S := lsB lv U0 V0 U1 V1) 24 i (by omega)
      have pl' := lsB_t.mp ll'
      have pi := eP l' ll'
      rw [cl'] at pi
      have ci := cntN_le P i
      have next : ∀ N : Nat, N = cntN P (i + 1) → Ends (ev PP (gsF gv) B d 421 130 [(2, rf (B + 56)), (0, (kk : Int)), (0, w), (0, (l0 : Int)), (0, (N : Int)), (0, (i : Int))] [] h) Q := fun N eN => by
        refine Ends.eq (b421_130 (n := n) (by (repeat' first | assumption | refine LX.setF _ _ ?_ (by decide +kernel) | refine LX.setS ?_ rfl | refine LX.setA ?_ (by first | assumption | omega))) (by first | assumption | omega)) ?_
        rw [w_succ (by omega), eN]
        exact ih (i + 1) (by omega)
      refine Ends.eq (b421_85 (n := n) (by (repeat' first | assumption | refine LX.setF _ _ ?_ (by decide +kernel) | refine LX.setS ?_ rfl | refine LX.setA ?_ (by first | assumption | omega))) (by first | assumption | omega)) ?_
      simp only [tn]
      rw [L.1, s1, s2, e1, e2]
      refine Ends.b3 (fun z => absurd z (by omega)) (fun _ => Ends.b0 (fun z => next _ ?_) (fun z => Ends.g ⟨by omega, by omega⟩ ?_))
      · have ell : l' = l0 := cnt_inj ll' (lsB_t.mpr pl) (by rw [cl', ← ekk]; omega)
        rw [cntN_s, pi]
        unfold dpB
        rw [ell, decide_eq_false (show ¬ l0 ≠ l0 from fun y => y rfl), Bool.false_and, Bool.and_false]
        rfl
      · have ne : l' ≠ l0 := fun y => z (by rw [← cl', y, ekk])
        refine Ends.ct l (by decide +kernel) (by decide) (c_isWithin416 l (by omega) Sg b hl (by omega) (by omega)) (fun y0 q2 l2 _ _ _ ⟨eq2_, ey0⟩ => ?_)
        subst eq2_
        rw [← cl', wi_cn L hl24 pl' 24 (Nat.le_refl _)] at ey0
        refine Ends.eq (b421_124 (n := n) (by (repeat' first | assumption | refine LX.setF _ _ ?_ (by decide +kernel) | refine LX.setS ?_ rfl | refine LX.setA ?_ (by first | assumption | omega))) (by first | assumption | omega)) ?_
        rw [ey0, ct0]
        have dp : dpB lv U0 V0 U1 V1 DU DV l0 l' = decide (cntN (fun m => cnB lv U0 V0 U1 V1 l' m && cxB U0 V0 V1 DU DV 8 (8 * U0 l0) (8 * V0 l0) m) 24 % 2 = 1) := by
          unfold dpB
          rw [ll', decide_eq_true ne, Bool.true_and, Bool.true_and]
        generalize cntN (fun m => cnB lv U0 V0 U1 V1 l' m && cxB U0 V0 V1 DU DV 8 (8 * U0 l0) (8 * V0 l0) m) 24 = N at *
        unfold parI
        by_cases z1 : N % 2 = 1
        · rw [if_neg (by omega), w_succ (by omega)]
          exact next _ (by rw [cntN_s, pi, dp, decide_eq_true z1]; rfl)
        · rw [if_pos (by omega)]
          exact next _ (by rw [cntN_s, pi, dp, decide_eq_false z1]; rfl)
  -- its first line
  have find : ∀ (r i : Nat) (u4 u5 : AV), i + r = l0 → Ends (ev PP (gsF gv) B d 421 2 [(2, rf (B + 56)), (0, (kk : Int)), (0, w), (0, (i : Int)), u4, u5] [] h) Q := by
    intro r
    induction r with
    | zero =>
      intro i u4 u5 ei
      obtain rfl : i = l0 := by omega
      refine Ends.eq (b421_2 (n := n) (by (repeat' first | assumption | refine LX.setF _ _ ?_ (by decide +kernel) | refine LX.setS ?_ rfl | refine LX.setA ?_ (by first | assumption | omega))) (by first | assumption | omega)) ?_
      rw [tn]
      refine Ends.g ⟨by omega, by omega⟩ (Ends.b0 (fun _ => Ends.b1 (fun w0 => Ends.b1 (fun w1 => ?_) (fun w1 => ?_)) (fun w0 => many 24 0 rfl w0)) (fun z => absurd ((lab i l24).mpr ConL.rf) z))
      · exact deep w0 w1 (cntN (lsB lv U0 V0 U1 V1) 24) 0 (by omega)
      · refine Ends.ct l (by decide +kernel) (by decide) (c_area386 l (by omega) Sg G b pl.1) (fun y0 q2 l2 _ _ _ ⟨eq2_, ar, lo, hi⟩ => ?_)
        subst eq2_
        refine Ends.eq (b421_75 (n := n) (by (repeat' first | assumption | refine LX.setF _ _ ?_ (by decide +kernel) | refine LX.setS ?_ rfl | refine LX.setA ?_ (by first | assumption | omega))) (by first | assumption | omega)) ?_
        rw [v886_big lo hi]
        exact Ends.sm (K _ _ ⟨rfl, Or.inr (Or.inl ⟨w1, y0, ar, rfl⟩)⟩)
    | succ r ih =>
      intro i u4 u5 ei
      refine Ends.eq (b421_2 (n := n) (by (repeat' first | assumption | refine LX.setF _ _ ?_ (by decide +kernel) | refine LX.setS ?_ rfl | refine LX.setA ?_ (by first | assumption | omega))) (by first | assumption | omega)) ?_
      rw [tn, w_succ (by omega)]
      refine Ends.g ⟨by omega, by omega⟩ (Ends.b0 (fun z => ?_) (fun _ => ih (i + 1) _ _ (by omega)))
      have c := (lab i (by omega)).mp z
      exact absurd c.sym (pl.2 i (by omega) (c.live pl.1))
  refine Ends.eq (b421_0 (n := n) (by (repeat' first | assumption | refine LX.setF _ _ ?_ (by decide +kernel) | refine LX.setS ?_ rfl | refine LX.setA ?_ (by first | assumption | omega))) (by first | assumption | omega)) ?_
  rw [← ekk]
  exact find l0 0 _ _ (by omega)
theorem c_loops422 (l : LX B n h) (hd : 12 ≤ d) (Sg : SgD B h lv U0 V0 U1 V1) (G : GrP lv U0 V0 U1 V1) : Vt 0 (cll PP (ev PP (gsF gv) B) d 422 [(2, rf (B + 56))] h) (fun x h' => Agr (flW B) h h' ∧ LbD B h' lv U0 V0 U1 V1 ∧ x = ((cntN (lsB lv U0 V0 U1 V1) 24 : Nat) : Int)) := by
  refine Vt.inq (D := 11) hd (Nat.le_of_ble_eq_true rfl) rfl (fun d hd Q K => ?_)
  refine Ends.eq (b422_0 (n := n) (by (repeat' first | assumption | refine LX.setF _ _ ?_ (by decide +kernel) | refine LX.setS ?_ rfl | refine LX.setA ?_ (by first | assumption | omega))) (by first | assumption | omega)) ?_
  refine Ends.cv l (by decide +kernel) (c_findLoops403 l (by omega) Sg G) (fun q1 l1 _ _ _ ⟨g1, L1⟩ => ?_)
  refine Ends.eq (b422_4 (n := n) (by (repeat' first | assumption | refine LX.setF _ _ ?_ (by decide +kernel) | refine LX.setS ?_ rfl | refine LX.setA ?_ (by first | assumption | omega))) (by first | assumption | omega)) ?_
  exact Ends.sm (K _ _ ⟨g1, L1, L1.1⟩)
end LOF
