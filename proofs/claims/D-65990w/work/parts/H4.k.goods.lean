/-! L3: whether a field's number is good (desk, model) -/
noncomputable section KGD
variable {gv : Nat → Int} {B n d k kd : Nat} {h t : AH} {w : Nat → Int} {x : Int}
set_option maxHeartbeats 1000000 in
theorem c_isGood275 (l : LX B n h) (hd : 12 ≤ d) (hk : kd < 31) (hf : k < fnN kd) (pv0 : hv h (B + 97) k = w k) (pv : kd = 11 ∨ kd = 19 → ∀ j, j ≤ k → hv h (B + 97) j = w j) (wb : ∀ j, -200 ≤ w j ∧ w j ≤ 200) (pr : kd = 19 → k = 2 → (-1 ≤ w 0 ∧ w 0 ≤ 1) ∧ -1 ≤ w 1 ∧ w 1 ≤ 1) :
    Vt 0 (cll PP (ev PP (gsF gv) B) d 275 [(2, rf (B + 92)), (0, (kd : Int)), (0, (k : Int))] h) (fun v h' => h' = h ∧ v = bI01 (gdB kd k w)) := by
  have k7 : k < 7 := by have : fnN kd ≤ 7 := fn_7 ⟨kd, hk⟩; omega
  refine Vt.inq (D := 11) hd (Nat.le_of_ble_eq_true rfl) rfl (fun d hd Q K => ?_)
  refine Ends.eq (b275_0 l (by omega)) (Ends.g ⟨by omega, by omega⟩ ?_)
  rw [tn, pv0]
  have wk := wb k
  rcases sw_275 ⟨kd, hk⟩ with ⟨f, e⟩ | ⟨f, e⟩ | ⟨f, e⟩ | ⟨f, e⟩ | ⟨f, e⟩ | ⟨f, e⟩ | ⟨f, e⟩ | ⟨f, e⟩ | ⟨f, e⟩ | ⟨f, e⟩ | ⟨f, e⟩ | ⟨f, e⟩ | ⟨f, e⟩ | ⟨f, e⟩ | ⟨f, e⟩ | ⟨f, e⟩ | ⟨f, e⟩
  · have e : sw275_8 (kd : Int) = 128 := e
    have f : kd = 4 ∨ kd = 6 := f
    rw [e]
    refine Ends.eq (b275_128 l (by omega)) (Ends.sm (K _ _ ⟨rfl, ?_⟩))
    rw [v321_is, bI01_0, show (4 : Int) = ((4 : Nat) : Int) from rfl, bI01_k]
    unfold gdB
    rw [if_pos (by omega)]
  · have e : sw275_8 (kd : Int) = 150 := e
    have f : kd = 5 := f
    rw [e]
    refine Ends.eq (b275_150 l (by omega)) (Ends.sm (K _ _ ⟨rfl, ?_⟩))
    rw [v321_is, bI01_0, show (6 : Int) = ((6 : Nat) : Int) from rfl, bI01_k]
    unfold gdB
    rw [if_neg (by omega), if_pos f, ct0]
    by_cases z : k = 4
    · rw [if_pos (by omega), decide_eq_false (by omega), Bool.false_or]
    · rw [if_neg (by omega)]
      by_cases z6 : k = 6
      · rw [decide_eq_false (by omega), decide_eq_false (by omega)]
      · rw [decide_eq_true (by omega), decide_eq_true (by omega)]
  · have e : sw275_8 (kd : Int) = 178 := e
    have f : kd = 7 := f
    rw [e]
    refine Ends.eq (b275_178 l (by omega)) (Ends.sm (K _ _ ⟨rfl, ?_⟩))
    rw [v321_is, bI01_0, show (6 : Int) = ((6 : Nat) : Int) from rfl, bI01_k]
    unfold gdB
    rw [if_neg (by omega), if_neg (by omega), if_pos f]
  · have e : sw275_8 (kd : Int) = 201 := e
    have f : kd = 8 := f
    rw [e]
    refine Ends.eq (b275_201 l (by omega)) (Ends.sm (K _ _ ⟨rfl, ?_⟩))
    rw [v321_is, bI01_0]
    unfold gdB
    rw [if_neg (by omega), if_neg (by omega), if_neg (by omega), if_pos f]
    exact bI01_k (m := 0)
  · have e : sw275_8 (kd : Int) = 222 := e
    have f : kd = 9 := f
    rw [e]
    refine Ends.eq (b275_222 l (by omega)) (Ends.sm (K _ _ ⟨rfl, ?_⟩))
    rw [v321_is]
    unfold gdB
    rw [if_neg (by omega), if_neg (by omega), if_neg (by omega), if_neg (by omega), if_pos f]
  · have e : sw275_8 (kd : Int) = 230 := e
    have f : kd = 10 := f
    rw [e]
    refine Ends.eq (b275_230 l (by omega)) (Ends.sm (K _ _ ⟨rfl, ?_⟩))
    rw [v321_is, bI01_0]
    unfold gdB
    rw [if_neg (by omega), if_neg (by omega), if_neg (by omega), if_neg (by omega), if_neg (by omega), if_pos f]
    exact bI01_k (m := 0)
  · have e : sw275_8 (kd : Int) = 251 := e
    have f : kd = 11 := f
    rw [e]
    refine Ends.eq (b275_251 l (by omega)) (Ends.sm (K _ _ ⟨rfl, ?_⟩))
    rw [v321_is, v321_is, bI01_0, show (3 : Int) = ((3 : Nat) : Int) from rfl, bI01_k]
    unfold gdB
    rw [if_neg (by omega), if_neg (by omega), if_neg (by omega), if_neg (by omega), if_neg (by omega), if_neg (by omega), if_pos f, ct1, ct1, ct1]
    by_cases z : k = 0
    · rw [if_pos (by omega), if_pos z]
    · rw [if_neg (by omega), if_neg z]
      by_cases z2 : k = 2
      · rw [if_pos (by omega), if_pos z2, show Int.toNat 1 = 1 from rfl, pv (Or.inl f) 1 (by omega)]
        unfold bI01
        by_cases y : (w 1 + w k) % 2 = 0
        · rw [if_pos ((rem_2 (wb 1) wk).mpr y), decide_eq_true y]; rfl
        · rw [if_neg (fun v => y ((rem_2 (wb 1) wk).mp v)), decide_eq_false y]; rfl
      · rw [if_neg (by omega), if_neg z2]
  · have e : sw275_8 (kd : Int) = 312 := e
    have f : kd = 12 ∨ kd = 27 := f
    rw [e]
    refine Ends.eq (b275_312 l (by omega)) (Ends.sm (K _ _ ⟨rfl, ?_⟩))
    rw [v321_is, bI01_0]
    unfold gdB
    rw [if_neg (by omega), if_neg (by omega), if_neg (by omega), if_neg (by omega), if_neg (by omega), if_neg (by omega), if_neg (by omega), if_pos f]
    exact bI01_k (m := 0)
  · have e : sw275_8 (kd : Int) = 332 := e
    have f : kd = 15 := f
    rw [e]
    refine Ends.eq (b275_332 l (by omega)) (Ends.sm (K _ _ ⟨rfl, ?_⟩))
    rw [v321_is]
    unfold gdB
    rw [if_neg (by omega), if_neg (by omega), if_neg (by omega), if_neg (by omega), if_neg (by omega), if_neg (by omega), if_neg (by omega), if_neg (by omega), if_pos f]
  · have e : sw275_8 (kd : Int) = 341 := e
    have f : kd = 16 ∨ kd = 17 := f
    rw [e]
    refine Ends.eq (b275_341 l (by omega)) (Ends.sm (K _ _ ⟨rfl, ?_⟩))
    rw [v321_is]
    unfold gdB
    rw [if_neg (by omega), if_neg (by omega), if_neg (by omega), if_neg (by omega), if_neg (by omega), if_neg (by omega), if_neg (by omega), if_neg (by omega), if_neg (by omega), if_pos f]
  · have e : sw275_8 (kd : Int) = 350 := e
    have f : kd = 18 := f
    rw [e]
    refine Ends.eq (b275_350 l (by omega)) (Ends.sm (K _ _ ⟨rfl, ?_⟩))
    rw [v321_is, v321_is]
    unfold gdB
    rw [if_neg (by omega), if_neg (by omega), if_neg (by omega), if_neg (by omega), if_neg (by omega), if_neg (by omega), if_neg (by omega), if_neg (by omega), if_neg (by omega), if_neg (by omega), if_pos f, ct1]
    by_cases z : k = 0
    · rw [if_pos (by omega), if_pos z]
    · rw [if_neg (by omega), if_neg z]
  · have e : sw275_8 (kd : Int) = 374 := e
    have f : kd = 19 := f
    rw [e]
    have gd : gdB kd k w = (decide (k = 3) || (inBd (w k) (-1) 1 && (decide (k ≠ 2) || !decide ((w 0 = 0 ∧ w 1 = 0 ∧ w k = 0) ∨ (w 0 ≠ 0 ∧ w 1 ≠ 0 ∧ w k ≠ 0))))) := by
      unfold gdB
      rw [if_neg (by omega), if_neg (by omega), if_neg (by omega), if_neg (by omega), if_neg (by omega), if_neg (by omega), if_neg (by omega), if_neg (by omega), if_neg (by omega), if_neg (by omega), if_neg (by omega), if_pos f]
    have k4 : k < 4 := by rw [f] at hf; exact hf
    refine Ends.eq (b275_374 l (by omega)) (Ends.b1 (fun z => Ends.sm (K _ _ ⟨rfl, ?_⟩)) (fun z => Ends.sm (K _ _ ⟨rfl, ?_⟩)))
    · rw [gd, decide_eq_false (by omega), Bool.false_or, show Int.toNat 0 = 0 from rfl, show Int.toNat 1 = 1 from rfl]
      by_cases k2 : k = 2
      · rw [pv (Or.inr f) 0 (by omega), pv (Or.inr f) 1 (by omega)]
        exact sp_good (by omega) (fun _ => pr f k2)
      · rw [sp_good (by omega) (fun y => absurd y k2), decide_eq_true k2]
        rfl
    · rw [gd, decide_eq_true (by omega), Bool.true_or]; rfl
  · have e : sw275_8 (kd : Int) = 444 := e
    have f : kd = 20 ∨ kd = 21 := f
    rw [e]
    refine Ends.eq (b275_444 l (by omega)) (Ends.sm (K _ _ ⟨rfl, ?_⟩))
    rw [v321_is]
    unfold gdB
    rw [if_neg (by omega), if_neg (by omega), if_neg (by omega), if_neg (by omega), if_neg (by omega), if_neg (by omega), if_neg (by omega), if_neg (by omega), if_neg (by omega), if_neg (by omega), if_neg (by omega), if_neg (by omega), if_pos f]
  · have e : sw275_8 (kd : Int) = 453 := e
    have f : kd = 25 := f
    rw [e]
    refine Ends.eq (b275_453 l (by omega)) (Ends.sm (K _ _ ⟨rfl, ?_⟩))
    rw [v321_is, bI01_0]
    unfold gdB
    rw [if_pos (by omega)]
    exact bI01_k (m := 4)
  · have e : sw275_8 (kd : Int) = 475 := e
    have f : kd = 26 := f
    rw [e]
    refine Ends.eq (b275_475 l (by omega)) (Ends.sm (K _ _ ⟨rfl, ?_⟩))
    rw [v321_is, bI01_0]
    unfold gdB
    rw [if_neg (by omega), if_neg (by omega), if_neg (by omega), if_neg (by omega), if_neg (by omega), if_neg (by omega), if_neg (by omega), if_neg (by omega), if_neg (by omega), if_neg (by omega), if_neg (by omega), if_neg (by omega), if_neg (by omega), if_pos f]
    exact bI01_k (m := 2)
  · have e : sw275_8 (kd : Int) = 497 := e
    have f : kd = 29 := f
    rw [e]
    refine Ends.eq (b275_497 l (by omega)) (Ends.sm (K _ _ ⟨rfl, ?_⟩))
    rw [v321_is]
    unfold gdB
    rw [if_neg (by omega), if_neg (by omega), if_neg (by omega), if_neg (by omega), if_neg (by omega), if_neg (by omega), if_neg (by omega), if_neg (by omega), if_neg (by omega), if_neg (by omega), if_neg (by omega), if_neg (by omega), if_neg (by omega), if_neg (by omega), if_pos f]
  · have e : sw275_8 (kd : Int) = 505 := e
    have f : kd ≤ 3 ∨ kd = 13 ∨ kd = 14 ∨ (22 ≤ kd ∧ kd ≤ 24) ∨ kd = 28 ∨ kd = 30 := f
    rw [e]
    refine Ends.eq (b275_505 l (by omega)) (Ends.sm (K _ _ ⟨rfl, ?_⟩))
    unfold gdB
    rw [if_neg (by omega), if_neg (by omega), if_neg (by omega), if_neg (by omega), if_neg (by omega), if_neg (by omega), if_neg (by omega), if_neg (by omega), if_neg (by omega), if_neg (by omega), if_neg (by omega), if_neg (by omega), if_neg (by omega), if_neg (by omega), if_neg (by omega)]
    rfl
set_option maxHeartbeats 1000000 in
/-- the model's -/
theorem c_isOut714 (l : LX B n h) (hd : 12 ≤ d) (hk : kd < 31) (hf : k < fnN kd) (pv : kd = 11 ∨ kd = 19 → ∀ j, j ≤ k → hv h (B + 198) j = w j) (wb : ∀ j, -200 ≤ w j ∧ w j ≤ 200) :
    Vt 0 (cll PP (ev PP (gsF gv) B) d 714 [(2, rf (B + 149)), (0, (kd : Int)), (0, (k : Int)), (0, (w k))] h) (fun v h' => h' = h ∧ v = bI01 (!gdB kd k w)) := by
  have k7 : k < 7 := by have : fnN kd ≤ 7 := fn_7 ⟨kd, hk⟩; omega
  refine Vt.inq (D := 11) hd (Nat.le_of_ble_eq_true rfl) rfl (fun d hd Q K => ?_)
  refine Ends.eq (b714_0 l (by omega)) ?_
  have wk := wb k
  rcases sw_714 ⟨kd, hk⟩ with ⟨f, e⟩ | ⟨f, e⟩ | ⟨f, e⟩ | ⟨f, e⟩ | ⟨f, e⟩ | ⟨f, e⟩ | ⟨f, e⟩ | ⟨f, e⟩ | ⟨f, e⟩ | ⟨f, e⟩ | ⟨f, e⟩ | ⟨f, e⟩ | ⟨f, e⟩ | ⟨f, e⟩ | ⟨f, e⟩ | ⟨f, e⟩ | ⟨f, e⟩ | ⟨f, e⟩
  · have e : sw714_1 (kd : Int) = 120 := e
    have f : kd = 4 := f
    rw [e]
    refine Ends.eq (b714_120 l (by omega)) (Ends.sm (K _ _ ⟨rfl, ?_⟩))
    rw [o01]
    unfold gdB
    rw [if_pos (by omega)]
    exact o01_k (m := 4)
  · have e : sw714_1 (kd : Int) = 142 := e
    have f : kd = 5 := f
    rw [e]
    refine Ends.eq (b714_142 l (by omega)) (Ends.sm (K _ _ ⟨rfl, ?_⟩))
    rw [o01, show (6 : Int) = ((6 : Nat) : Int) from rfl, o01_k]
    unfold gdB
    rw [if_neg (by omega), if_pos f, ct0]
    by_cases z : k = 4
    · rw [if_pos (by omega), decide_eq_false (show ¬ (k ≠ 4 ∧ k ≠ 6) by omega), Bool.false_or]
    · rw [if_neg (by omega)]
      by_cases z6 : k = 6
      · rw [decide_eq_false (show ¬ k ≠ 6 by omega), decide_eq_false (show ¬ (k ≠ 4 ∧ k ≠ 6) by omega)]
      · rw [decide_eq_true z6, decide_eq_true (show k ≠ 4 ∧ k ≠ 6 from ⟨z, z6⟩)]
  · have e : sw714_1 (kd : Int) = 170 := e
    have f : kd = 6 := f
    rw [e]
    refine Ends.eq (b714_170 l (by omega)) (Ends.sm (K _ _ ⟨rfl, ?_⟩))
    rw [o01]
    unfold gdB
    rw [if_pos (by omega)]
    exact o01_k (m := 4)
  · have e : sw714_1 (kd : Int) = 192 := e
    have f : kd = 7 := f
    rw [e]
    refine Ends.eq (b714_192 l (by omega)) (Ends.sm (K _ _ ⟨rfl, ?_⟩))
    rw [o01]
    unfold gdB
    rw [if_neg (by omega), if_neg (by omega), if_pos f]
    exact o01_k (m := 6)
  · have e : sw714_1 (kd : Int) = 214 := e
    have f : kd = 8 := f
    rw [e]
    refine Ends.eq (b714_214 l (by omega)) (Ends.sm (K _ _ ⟨rfl, ?_⟩))
    rw [o01]
    unfold gdB
    rw [if_neg (by omega), if_neg (by omega), if_neg (by omega), if_pos f]
    exact o01_k (m := 0)
  · have e : sw714_1 (kd : Int) = 235 := e
    have f : kd = 9 := f
    rw [e]
    refine Ends.eq (b714_235 l (by omega)) (Ends.sm (K _ _ ⟨rfl, ?_⟩))
    rw [o01]
    unfold gdB
    rw [if_neg (by omega), if_neg (by omega), if_neg (by omega), if_neg (by omega), if_pos f]
  · have e : sw714_1 (kd : Int) = 250 := e
    have f : kd = 10 := f
    rw [e]
    refine Ends.eq (b714_250 l (by omega)) (Ends.sm (K _ _ ⟨rfl, ?_⟩))
    rw [o01]
    unfold gdB
    rw [if_neg (by omega), if_neg (by omega), if_neg (by omega), if_neg (by omega), if_neg (by omega), if_pos f]
    exact o01_k (m := 0)
  · have e : sw714_1 (kd : Int) = 271 := e
    have f : kd = 11 := f
    rw [e]
    refine Ends.eq (b714_271 l (by omega)) (Ends.sm (K _ _ ⟨rfl, ?_⟩))
    rw [o01, o01, show (3 : Int) = ((3 : Nat) : Int) from rfl, o01_k]
    unfold gdB
    rw [if_neg (by omega), if_neg (by omega), if_neg (by omega), if_neg (by omega), if_neg (by omega), if_neg (by omega), if_pos f, ct1, ct1, ct0]
    by_cases z : k = 0
    · rw [if_pos (by omega), if_pos z]
    · rw [if_neg (by omega), if_neg z]
      by_cases z2 : k = 2
      · rw [if_pos (by omega), if_pos z2, show Int.toNat 1 = 1 from rfl, pv (Or.inl f) 1 (by omega)]
        unfold bI01
        by_cases y : (w 1 + w k) % 2 = 0
        · rw [if_pos ((rem_2 (wb 1) wk).mpr y), decide_eq_true y]; rfl
        · rw [if_neg (fun v => y ((rem_2 (wb 1) wk).mp v)), decide_eq_false y]; rfl
      · rw [if_neg (by omega), if_neg z2]
  · have e : sw714_1 (kd : Int) = 339 := e
    have f : kd = 12 ∨ kd = 27 := f
    rw [e]
    refine Ends.eq (b714_339 l (by omega)) (Ends.sm (K _ _ ⟨rfl, ?_⟩))
    rw [o01]
    unfold gdB
    rw [if_neg (by omega), if_neg (by omega), if_neg (by omega), if_neg (by omega), if_neg (by omega), if_neg (by omega), if_neg (by omega), if_pos f]
    exact o01_k (m := 0)
  · have e : sw714_1 (kd : Int) = 358 := e
    have f : kd = 15 := f
    rw [e]
    refine Ends.eq (b714_358 l (by omega)) (Ends.sm (K _ _ ⟨rfl, ?_⟩))
    rw [o01]
    unfold gdB
    rw [if_neg (by omega), if_neg (by omega), if_neg (by omega), if_neg (by omega), if_neg (by omega), if_neg (by omega), if_neg (by omega), if_neg (by omega), if_pos f]
  · have e : sw714_1 (kd : Int) = 374 := e
    have f : kd = 16 ∨ kd = 17 := f
    rw [e]
    refine Ends.eq (b714_374 l (by omega)) (Ends.sm (K _ _ ⟨rfl, ?_⟩))
    rw [o01]
    unfold gdB
    rw [if_neg (by omega), if_neg (by omega), if_neg (by omega), if_neg (by omega), if_neg (by omega), if_neg (by omega), if_neg (by omega), if_neg (by omega), if_neg (by omega), if_pos f]
  · have e : sw714_1 (kd : Int) = 391 := e
    have f : kd = 18 := f
    rw [e]
    refine Ends.eq (b714_391 l (by omega)) (Ends.sm (K _ _ ⟨rfl, ?_⟩))
    rw [o01, o01]
    unfold gdB
    rw [if_neg (by omega), if_neg (by omega), if_neg (by omega), if_neg (by omega), if_neg (by omega), if_neg (by omega), if_neg (by omega), if_neg (by omega), if_neg (by omega), if_neg (by omega), if_pos f, ct1]
    by_cases z : k = 0
    · rw [if_pos (by omega), if_pos z]
    · rw [if_neg (by omega), if_neg z]
  · have e : sw714_1 (kd : Int) = 430 := e
    have f : kd = 19 := f
    rw [e]
    have gd : gdB kd k w = (decide (k = 3) || (inBd (w k) (-1) 1 && (decide (k ≠ 2) || !decide ((w 0 = 0 ∧ w 1 = 0 ∧ w k = 0) ∨ (w 0 ≠ 0 ∧ w 1 ≠ 0 ∧ w k ≠ 0))))) := by
      unfold gdB
      rw [if_neg (by omega), if_neg (by omega), if_neg (by omega), if_neg (by omega), if_neg (by omega), if_neg (by omega), if_neg (by omega), if_neg (by omega), if_neg (by omega), if_neg (by omega), if_neg (by omega), if_pos f]
    have k4 : k < 4 := by rw [f] at hf; exact hf
    refine Ends.eq (b714_430 l (by omega)) (Ends.sm (K _ _ ⟨rfl, ?_⟩))
    rw [gd]
    by_cases k3 : k = 3
    · rw [decide_eq_true k3, Bool.true_or, ct3, if_neg (by omega), ct1, if_neg (by omega)]; rfl
    · rw [decide_eq_false k3, Bool.false_or, sp_bad (kk := k) (by omega) (show v706 B h = _ from sp_odd), show Int.toNat 0 = 0 from rfl, show Int.toNat 1 = 1 from rfl, show Int.toNat 2 = 2 from rfl]
      by_cases k2 : k = 2
      · rw [pv (Or.inr f) 0 (by omega), pv (Or.inr f) 1 (by omega), pv (Or.inr f) 2 (by omega), k2]
      · rw [decide_eq_true k2, Bool.true_or, Bool.true_or]
  · have e : sw714_1 (kd : Int) = 463 := e
    have f : kd = 20 ∨ kd = 21 := f
    rw [e]
    refine Ends.eq (b714_463 l (by omega)) (Ends.sm (K _ _ ⟨rfl, ?_⟩))
    rw [o01]
    unfold gdB
    rw [if_neg (by omega), if_neg (by omega), if_neg (by omega), if_neg (by omega), if_neg (by omega), if_neg (by omega), if_neg (by omega), if_neg (by omega), if_neg (by omega), if_neg (by omega), if_neg (by omega), if_neg (by omega), if_pos f]
  · have e : sw714_1 (kd : Int) = 480 := e
    have f : kd = 25 := f
    rw [e]
    refine Ends.eq (b714_480 l (by omega)) (Ends.sm (K _ _ ⟨rfl, ?_⟩))
    rw [o01]
    unfold gdB
    rw [if_pos (by omega)]
    exact o01_k (m := 4)
  · have e : sw714_1 (kd : Int) = 502 := e
    have f : kd = 26 := f
    rw [e]
    refine Ends.eq (b714_502 l (by omega)) (Ends.sm (K _ _ ⟨rfl, ?_⟩))
    rw [o01]
    unfold gdB
    rw [if_neg (by omega), if_neg (by omega), if_neg (by omega), if_neg (by omega), if_neg (by omega), if_neg (by omega), if_neg (by omega), if_neg (by omega), if_neg (by omega), if_neg (by omega), if_neg (by omega), if_neg (by omega), if_neg (by omega), if_pos f]
    exact o01_k (m := 2)
  · have e : sw714_1 (kd : Int) = 524 := e
    have f : kd = 29 := f
    rw [e]
    refine Ends.eq (b714_524 l (by omega)) (Ends.sm (K _ _ ⟨rfl, ?_⟩))
    rw [o01]
    unfold gdB
    rw [if_neg (by omega), if_neg (by omega), if_neg (by omega), if_neg (by omega), if_neg (by omega), if_neg (by omega), if_neg (by omega), if_neg (by omega), if_neg (by omega), if_neg (by omega), if_neg (by omega), if_neg (by omega), if_neg (by omega), if_neg (by omega), if_pos f]
  · have e : sw714_1 (kd : Int) = 540 := e
    have f : kd ≤ 3 ∨ kd = 13 ∨ kd = 14 ∨ (22 ≤ kd ∧ kd ≤ 24) ∨ kd = 28 ∨ kd = 30 := f
    rw [e]
    refine Ends.eq (b714_540 l (by omega)) (Ends.sm (K _ _ ⟨rfl, ?_⟩))
    unfold gdB
    rw [if_neg (by omega), if_neg (by omega), if_neg (by omega), if_neg (by omega), if_neg (by omega), if_neg (by omega), if_neg (by omega), if_neg (by omega), if_neg (by omega), if_neg (by omega), if_neg (by omega), if_neg (by omega), if_neg (by omega), if_neg (by omega), if_neg (by omega)]
    rfl
end KGD
