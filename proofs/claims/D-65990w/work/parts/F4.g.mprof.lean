/-! L3: profiles (model): small questions -/
section PRM
variable {gv : Nat → Int} {B n d p : Nat} {h : AH} {ab be : Nat → Int} {lv : Nat → Bool} {U0 V0 U1 V1 DU DV SZ : Nat → Int}
theorem c_isWhole722 (l : LX B n h) (hd : 10 ≤ d) (hp : p < 12) (ha : ∀ j, j < 2 → hv h (B + 166) (2 * p + j) = ab (2 * p + j) ∧ hv h (B + 167) (2 * p + j) = be (2 * p + j)) : Vt 0 (cll PP (ev PP (gsF gv) B) d 722 [(2, rf (B + 149)), (0, (p : Int))] h) (fun x h' => h' = h ∧ x = b2i (whB n ab be p)) := by
  refine Vt.inq (D := 9) hd (Nat.le_of_ble_eq_true rfl) rfl (fun d hd Q K => ?_)
  have key : ∀ (r j : Nat), j + r = 2 → (∀ i, i < j → be (2 * p + i) = 1 ∧ 0 ≤ ab (2 * p + i) ∧ ab (2 * p + i) ≤ (n : Int)) → Ends (ev PP (gsF gv) B d 722 4 [(2, rf (B + 149)), (0, (p : Int)), (0, ((2 * p + j : Nat) : Int))] [] h) Q := by
    intro r
    induction r with
    | zero =>
      intro j ej ok
      obtain rfl : j = 2 := by omega
      refine Ends.eq (b722_4 (n := n) (by (repeat' first | assumption | refine LX.setF _ _ ?_ (by decide +kernel) | refine LX.setS ?_ rfl | refine LX.setA ?_ (by first | assumption | omega))) (by first | assumption | omega)) ?_
      rw [show bop32 104 2 (p : Int) = ((2 * p : Nat) : Int) from mulNN (x := 2) (by omega), show bop32 96 ((2 * p : Nat) : Int) 2 = ((2 * p + 2 : Nat) : Int) from addNN (y := 2) (by omega)]
      refine Ends.b3 (fun _ => Ends.sm (K _ _ ⟨rfl, ?_⟩)) (fun z => absurd z (Int.lt_irrefl _))
      rw [whB_t ok]; rfl
    | succ r ih =>
      intro j ej ok
      obtain ⟨a1, a2⟩ := ha j (by omega)
      have no : ¬ (be (2 * p + j) = 1 ∧ 0 ≤ ab (2 * p + j) ∧ ab (2 * p + j) ≤ (n : Int)) → Ends (ev PP (gsF gv) B d 722 50 [(2, rf (B + 149)), (0, (p : Int)), (0, ((2 * p + j : Nat) : Int))] [] h) Q := fun z => by
        refine Ends.eq (b722_50 (n := n) (by (repeat' first | assumption | refine LX.setF _ _ ?_ (by decide +kernel) | refine LX.setS ?_ rfl | refine LX.setA ?_ (by first | assumption | omega))) (by first | assumption | omega)) ?_
        refine Ends.sm (K _ _ ⟨rfl, ?_⟩)
        rw [whB_f (by omega) z]; rfl
      refine Ends.eq (b722_4 (n := n) (by (repeat' first | assumption | refine LX.setF _ _ ?_ (by decide +kernel) | refine LX.setS ?_ rfl | refine LX.setA ?_ (by first | assumption | omega))) (by first | assumption | omega)) ?_
      rw [show bop32 104 2 (p : Int) = ((2 * p : Nat) : Int) from mulNN (x := 2) (by omega), show bop32 96 ((2 * p : Nat) : Int) 2 = ((2 * p + 2 : Nat) : Int) from addNN (y := 2) (by omega), tn, a1, a2]
      refine Ends.b3 (fun z => absurd z (by omega)) (fun _ => Ends.g ⟨by omega, by omega⟩ (Ends.b1 (fun z => no (fun y => z (cmp64_z.mpr y.1))) (fun z1 => Ends.b2 (fun z => no (fun y => by have := cmp64_neg.mp z; omega)) (fun z2 => Ends.b5 (fun z3 => ?_) (fun z => no (fun y => by have : (n : Int) < ab (2 * p + j) := cmp64_pos.mp z; omega))))))
      rw [w_succ (by omega)]
      refine ih (j + 1) (by omega) (fun i hi => ?_)
      rcases (by omega : i < j ∨ i = j) with u | u
      · exact ok i u
      · rw [u]
        refine ⟨cmp64_z.mp z1, ?_, ?_⟩
        · rcases (by omega : ab (2 * p + j) < 0 ∨ 0 ≤ ab (2 * p + j)) with y | y
          · have := cmp64_neg.mpr y; omega
          · exact y
        · rcases (by omega : (n : Int) < ab (2 * p + j) ∨ ab (2 * p + j) ≤ (n : Int)) with y | y
          · have : 0 < cmp64 (ab (2 * p + j)) (uop 2 (n : Int)) := cmp64_pos.mpr y
            omega
          · exact y
  refine Ends.eq (b722_0 (n := n) (by (repeat' first | assumption | refine LX.setF _ _ ?_ (by decide +kernel) | refine LX.setS ?_ rfl | refine LX.setA ?_ (by first | assumption | omega))) (by first | assumption | omega)) ?_
  rw [show bop32 104 2 (p : Int) = ((2 * p : Nat) : Int) from mulNN (x := 2) (by omega)]
  exact key 2 0 (by omega) (fun i hi => absurd hi (Nat.not_lt_zero i))
/-- a sum over those that are there -/
theorem sum_live {f g : Nat → Nat} : ∀ N, (∀ k, k < N → lv k = true → g (cntN lv k) = f k) → sumN g (cntN lv N) = sumN (fun k => if lv k = true then f k else 0) N
  | 0, _ => rfl
  | N + 1, h => by
    have ih := sum_live N (fun k hk => h k (by omega))
    show sumN g (cntN lv (N + 1)) = sumN (fun k => if lv k = true then f k else 0) N + (if lv N = true then f N else 0)
    rw [cntN_s, ← ih]
    by_cases e : lv N = true
    · rw [if_pos e, if_pos e]
      show sumN g (cntN lv N) + g (cntN lv N) = _
      rw [h N (Nat.lt_succ_self N) e]
    · rw [if_neg e, if_neg e]; rfl
/-- lines in the model's cells: those that are there, one by one -/
def SgM (B : Nat) (q : AH) (lv : Nat → Bool) (U0 V0 U1 V1 : Nat → Int) : Prop := hv q (B + 149) 56 = ((cntN lv 24 : Nat) : Int) ∧ ∀ k, k < 24 → lv k = true → hv q (B + 168) (cntN lv k) = U0 k ∧ hv q (B + 169) (cntN lv k) = V0 k ∧ hv q (B + 170) (cntN lv k) = U1 k ∧ hv q (B + 171) (cntN lv k) = V1 k
theorem c_endsAt611 {u v : Int} (l : LX B n h) (hd : 10 ≤ d) (S : SgM B h lv U0 V0 U1 V1) : Vt 0 (cll PP (ev PP (gsF gv) B) d 611 [(2, rf (B + 149)), (0, u), (0, v)] h) (fun x h' => h' = h ∧ x = ((sumN (enF lv U0 V0 U1 V1 u v) 24 : Nat) : Int)) := by
  refine Vt.inq (D := 9) hd (Nat.le_of_ble_eq_true rfl) rfl (fun d hd Q K => ?_)
  obtain ⟨g, eg⟩ : ∃ g : Nat → Nat, g = fun i => (if hv h (B + 168) i = u ∧ hv h (B + 169) i = v then 1 else 0) + (if hv h (B + 170) i = u ∧ hv h (B + 171) i = v then 1 else 0) := ⟨_, rfl⟩
  have gi : ∀ i, g i = (if hv h (B + 168) i = u ∧ hv h (B + 169) i = v then 1 else 0) + (if hv h (B + 170) i = u ∧ hv h (B + 171) i = v then 1 else 0) := fun i => by rw [eg]
  have g2 : ∀ i, g i ≤ 2 := fun i => by rw [gi]; split <;> split <;> omega
  have bd : ∀ m, sumN g m ≤ 2 * m := by
    intro m
    induction m with
    | zero => exact Nat.le_refl 0
    | succ m ih =>
      have := g2 m
      show sumN g m + g m ≤ 2 * (m + 1)
      omega
  have c24 : cntN lv 24 ≤ 24 := cntN_le _ _
  have fin : sumN g (cntN lv 24) = sumN (enF lv U0 V0 U1 V1 u v) 24 := by
    rw [sum_live (f := fun k => (if U0 k = u ∧ V0 k = v then 1 else 0) + (if U1 k = u ∧ V1 k = v then 1 else 0)) 24 (fun k hk z => by
      obtain ⟨a1, a2, a3, a4⟩ := S.2 k hk z
      rw [gi, a1, a2, a3, a4])]
    rfl
  have key : ∀ (r i : Nat), i + r = cntN lv 24 → Ends (ev PP (gsF gv) B d 611 5 [(2, rf (B + 149)), (0, u), (0, v), (0, ((sumN g i : Nat) : Int)), (0, (i : Int))] [] h) Q := by
    intro r
    induction r with
    | zero =>
      intro i ei
      obtain rfl : i = cntN lv 24 := by omega
      refine Ends.eq (b611_5 (n := n) (by (repeat' first | assumption | refine LX.setF _ _ ?_ (by decide +kernel) | refine LX.setS ?_ rfl | refine LX.setA ?_ (by first | assumption | omega))) (by first | assumption | omega)) ?_
      rw [S.1]
      exact Ends.b3 (fun _ => Ends.sm (K _ _ ⟨rfl, by rw [fin]⟩)) (fun z => absurd z (Int.lt_irrefl _))
    | succ r ih =>
      intro i ei
      have b0 := bd i
      have b1 := g2 i
      have e1 : bop32 96 (cond (tst 1 (hv h (B + 168) i) u) (0 : Int) (cond (tst 1 (hv h (B + 169) i) v) 0 1)) (cond (tst 1 (hv h (B + 170) i) u) (0 : Int) (cond (tst 1 (hv h (B + 171) i) v) 0 1)) = ((g i : Nat) : Int) := by
        rw [gi, ct1, ct1, ct1, ct1]
        by_cases c1 : hv h (B + 168) i = u <;> by_cases c2 : hv h (B + 169) i = v <;> by_cases c3 : hv h (B + 170) i = u <;> by_cases c4 : hv h (B + 171) i = v <;> simp only [c1, c2, c3, c4, if_true, if_false, and_true, and_false, true_and, false_and, and_self] <;> rfl
      have e2 : bop32 96 ((sumN g i : Nat) : Int) ((g i : Nat) : Int) = ((sumN g (i + 1) : Nat) : Int) := addNN (by omega)
      refine Ends.eq (b611_5 (n := n) (by (repeat' first | assumption | refine LX.setF _ _ ?_ (by decide +kernel) | refine LX.setS ?_ rfl | refine LX.setA ?_ (by first | assumption | omega))) (by first | assumption | omega)) ?_
      rw [S.1, tn, e1, e2, w_succ (by omega)]
      clear e1 e2
      exact Ends.b3 (fun z => absurd z (by omega)) (fun _ => Ends.g ⟨by omega, by omega⟩ (ih (i + 1) (by omega)))
  refine Ends.eq (b611_0 (n := n) (by (repeat' first | assumption | refine LX.setF _ _ ?_ (by decide +kernel) | refine LX.setS ?_ rfl | refine LX.setA ?_ (by first | assumption | omega))) (by first | assumption | omega)) ?_
  exact key (cntN lv 24) 0 (by omega)
end PRM
