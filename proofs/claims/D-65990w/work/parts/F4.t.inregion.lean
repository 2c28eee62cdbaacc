/-! L3: whether places are in a loop, in the region (both sides) -/
noncomputable section REG
variable {gv : Nat → Int} {B n d D a : Nat} {h : AH} {lv : Nat → Bool} {U0 V0 U1 V1 DU DV SZ CU CV : Nat → Int} {CR : Nat → Nat} {k m l f : Nat} {u v w x c : Int}
/-- lines of a loop of the model that are crossed -/
def ilM (lv : Nat → Bool) (LA U0 V0 V1 DU DV : Nat → Int) (u v : Int) (w : Int) (k : Nat) : Bool := lv k && decide (LA (cntN lv k) = w) && cxB U0 V0 V1 DU DV 2 u v k
set_option maxHeartbeats 1000000 in
theorem c_isInLoop696 (l : LX B n h) (n64 : n ≤ 64) (hd : 10 ≤ d) (Sm : SgM B h lv U0 V0 U1 V1) (hG : ∀ k, k < 24 → lv k = true → SgK n U0 V0 U1 V1 DU DV SZ k) (hl : ∀ k, lv k = true → k < 24) (hu : -1000 ≤ u ∧ u ≤ 1000) (hv0 : -1000 ≤ v ∧ v ≤ 1000) (odd : v % 2 ≠ 0) : Vt 0 (cll PP (ev PP (gsF gv) B) d 696 [(2, rf (B + 149)), (0, w), (0, u), (0, v)] h) (fun x h' => h' = h ∧ x = parI (cntN (ilM lv (fun i => hv h (B + 176) i) U0 V0 V1 DU DV u v w) 24)) := by
  refine Vt.inq (D := 9) hd (Nat.le_of_ble_eq_true rfl) rfl (fun d hd Q K => ?_)
  have c24 : cntN lv 24 ≤ 24 := cntN_le _ _
  obtain ⟨F, eF⟩ : ∃ F, F = ilM lv (fun i => hv h (B + 176) i) U0 V0 V1 DU DV u v w := ⟨_, rfl⟩
  obtain ⟨P, eP⟩ : ∃ P : Nat → Bool, ∀ k, lv k = true → P (cntN lv k) = F k := by
    refine ⟨fun i => @decide (∃ k, lv k = true ∧ cntN lv k = i ∧ F k = true) (Classical.propDecidable _), fun k lk => ?_⟩
    cases z : F k
    · exact @decide_eq_false _ (Classical.propDecidable _) (fun ⟨k', h1, h2, h3⟩ => by rw [cnt_inj h1 lk h2, z] at h3; cases h3)
    · exact @decide_eq_true _ (Classical.propDecidable _) ⟨k, lk, rfl, z⟩
  have key : ∀ (r i : Nat) (u6 : AV), i + r = cntN lv 24 → Ends (ev PP (gsF gv) B d 696 6 [(2, rf (B + 149)), (0, w), (0, u), (0, v), (0, parI (cntN P i)), (0, (i : Int)), u6] [] h) Q := by
    intro r
    induction r with
    | zero =>
      intro i u6 ei
      obtain rfl : i = cntN lv 24 := by omega
      refine Ends.eq (b696_6 (n := n) (by (repeat' first | assumption | refine LX.setF _ _ ?_ (by decide +kernel) | refine LX.setS ?_ rfl | refine LX.setA ?_ (by first | assumption | omega))) (by first | assumption | omega)) ?_
      rw [Sm.1]
      refine Ends.b3 (fun _ => Ends.g par_01 (Ends.sm (K _ _ ⟨rfl, ?_⟩))) (fun z => absurd z (Int.lt_irrefl _))
      rw [cnt_ml eP (fun k z => by rw [eF]; unfold ilM; rw [z]; rfl), eF]
    | succ r ih =>
      intro i u6 ei
      obtain ⟨k, hk, lk, ck⟩ := cnt_at (S := lv) 24 i (by omega)
      obtain ⟨y1, y2, y3, y4⟩ := Sm.2 k hk lk
      rw [ck] at y1 y2 y3 y4
      have pk : P i = (decide (hv h (B + 176) i = w) && cxB U0 V0 V1 DU DV 2 u v k) := by
        rw [← ck, eP k lk, eF]
        unfold ilM
        rw [lk, Bool.true_and]
      have skip : P i = false → ∀ u6 : AV, Ends (ev PP (gsF gv) B d 696 168 [(2, rf (B + 149)), (0, w), (0, u), (0, v), (0, parI (cntN P i)), (0, (i : Int)), u6] [] h) Q := fun z u6 => by
        refine Ends.eq (b696_168 (n := n) (by (repeat' first | assumption | refine LX.setF _ _ ?_ (by decide +kernel) | refine LX.setS ?_ rfl | refine LX.setA ?_ (by first | assumption | omega))) (by first | assumption | omega)) ?_
        rw [w_succ (by omega), show cntN P i = cntN P (i + 1) from by rw [cntN_s, z]; rfl]
        exact ih (i + 1) _ (by omega)
      have take : P i = true → ∀ u6 : AV, Ends (ev PP (gsF gv) B d 696 168 [(2, rf (B + 149)), (0, w), (0, u), (0, v), (0, parI (cntN P i + 1)), (0, (i : Int)), u6] [] h) Q := fun z u6 => by
        refine Ends.eq (b696_168 (n := n) (by (repeat' first | assumption | refine LX.setF _ _ ?_ (by decide +kernel) | refine LX.setS ?_ rfl | refine LX.setA ?_ (by first | assumption | omega))) (by first | assumption | omega)) ?_
        rw [w_succ (by omega), show cntN P i + 1 = cntN P (i + 1) from by rw [cntN_s, z]; rfl]
        exact ih (i + 1) _ (by omega)
      have G := hG k hk lk
      obtain ⟨⟨D8_, s1⟩, ⟨g1, g2⟩, bu, bv, bu1, bv1, s2⟩ := id G
      obtain ⟨f1, f2, f3, f4⟩ := ln_cr (U0 := U0) (V0 := V0) (V1 := V1) (DU := DU) (DV := DV) (k := k) (u := u) (v := v) (Or.inl rfl : (2 : Int) = 2 ∨ (2 : Int) = 8) odd
      have sl : V0 k ≠ V1 k → bop32 108 (bop32 100 (U1 k) (U0 k)) (bop32 100 (V1 k) (V0 k)) = DU k * DV k := fun z => slope_is n64 G z
      have no : ¬ cxP U0 V0 V1 DU DV 2 u v k → P i = false := fun z => by rw [pk, cxB_f z, Bool.and_false]
      have e1 : bop32 104 2 (v892 (V0 k) (V1 k)) = 2 * min (V0 k) (V1 k) := by rw [v892_is]; exact mul32 (by omega) (by omega)
      have e2 : bop32 104 2 (v891 (V0 k) (V1 k)) = 2 * max (V0 k) (V1 k) := by rw [v891_is]; exact mul32 (by omega) (by omega)
      have e3 : bop32 104 2 (U0 k) = 2 * U0 k := mul32 (by omega) (by omega)
      have e4 : bop32 104 2 (V0 k) = 2 * V0 k := mul32 (by omega) (by omega)
      have e5 : bop32 100 v (2 * V0 k) = v - 2 * V0 k := sub32 (by omega) (by omega)
      have e9 : bop32 100 (V1 k) (V0 k) = V1 k - V0 k := sub32 (by omega) (by omega)
      have dd : DU k * DV k = -1 ∨ DU k * DV k = 0 ∨ DU k * DV k = 1 := by
        obtain ⟨h1, h2, -⟩ := D8_
        rcases h1 with h1 | h1 | h1 <;> rcases h2 with h2 | h2 | h2 <;> rw [h1, h2] <;> decide
      obtain ⟨e6, b6⟩ := mul_t (t := v - 2 * V0 k) dd (by omega)
      rw [Int.mul_comm] at e6 b6
      have e6' : bop32 104 (DU k * DV k) (v - 2 * V0 k) = DU k * DV k * (v - 2 * V0 k) := mul32 (by omega) (by omega)
      have e7 : bop32 96 (2 * U0 k) (DU k * DV k * (v - 2 * V0 k)) = 2 * U0 k + DU k * DV k * (v - 2 * V0 k) := add32 (by omega) (by omega)
      refine Ends.eq (b696_6 (n := n) (by (repeat' first | assumption | refine LX.setF _ _ ?_ (by decide +kernel) | refine LX.setS ?_ rfl | refine LX.setA ?_ (by first | assumption | omega))) (by first | assumption | omega)) ?_
      simp only [tn]
      rw [Sm.1, y1, y2, y3, y4, e1, e2, e3, e4, e5, ct5, ct1, par_tog]
      refine Ends.b3 (fun z => absurd z (by omega)) (fun _ => Ends.g ⟨by omega, by omega⟩ (Ends.b1 (fun z => skip (by rw [pk, decide_eq_false z]; rfl) _) (fun hw => Ends.b1 (fun zv => Ends.b2 (fun z => skip (no (f2 z)) _) (fun z2 => Ends.b5 (fun z3 => ?_) (fun z => skip (no (f3 (by omega))) _))) (fun z => skip (no (f1 z)) _))))
      rw [sl zv, e6', e7, e9]
      clear e1 e2 e3 e4 e5 e6 e6' e7 e9 sl
      refine Ends.g (fun z => zv (by omega)) ?_
      have iff_ := f4 zv (by omega) (by omega)
      by_cases c3 : u < 2 * U0 k + DU k * DV k * (v - 2 * V0 k)
      · rw [if_pos c3]
        exact take (by rw [pk, decide_eq_true hw, cxB_t.mpr (iff_.mpr c3)]; rfl) _
      · rw [if_neg c3]
        exact skip (no (fun y => c3 (iff_.mp y))) _
  refine Ends.eq (b696_0 (n := n) (by (repeat' first | assumption | refine LX.setF _ _ ?_ (by decide +kernel) | refine LX.setS ?_ rfl | refine LX.setA ?_ (by first | assumption | omega))) (by first | assumption | omega)) ?_
  exact key (cntN lv 24) 0 _ (by omega)
/-- discs of a profile, one by one -/
def DscM (B n : Nat) (q : AH) (D : Nat) (CU CV : Nat → Int) (CR : Nat → Nat) : Prop := (hv q (B + 149) 57 = (D : Int) ∧ D ≤ 6) ∧ ∀ i, i < D → (hv q (B + 173) i = CU i ∧ hv q (B + 174) i = CV i ∧ hv q (B + 175) i = ((CR i : Nat) : Int)) ∧ (0 ≤ CU i ∧ CU i ≤ n) ∧ (0 ≤ CV i ∧ CV i ≤ n) ∧ CR i ≤ n
def DscD (B n : Nat) (q : AH) (D : Nat) (CU CV : Nat → Int) (CR : Nat → Nat) : Prop := (hv q (B + 56) 23 = (D : Int) ∧ D ≤ 6) ∧ ∀ i, i < D → (hv q (B + 78) i = CU i ∧ hv q (B + 79) i = CV i ∧ hv q (B + 80) i = ((CR i : Nat) : Int)) ∧ (0 ≤ CU i ∧ CU i ≤ n) ∧ (0 ≤ CV i ∧ CV i ≤ n) ∧ CR i ≤ n
def dcB (CU CV : Nat → Int) (CR : Nat → Nat) (u v : Int) (i : Nat) : Bool := und (CR i) (u - 8 * CU i) (v - 8 * CV i) 0
/-- the lines crossed from a place, in eighths -/
def lcB (lv : Nat → Bool) (U0 V0 V1 DU DV : Nat → Int) (u v : Int) (k : Nat) : Bool := lv k && cxB U0 V0 V1 DU DV 8 u v k
/-- in the region -/
def rgB (lv : Nat → Bool) (U0 V0 V1 DU DV : Nat → Int) (D : Nat) (CU CV : Nat → Int) (CR : Nat → Nat) (u v : Int) : Bool := decide ((cntN (lcB lv U0 V0 V1 DU DV u v) 24 + cntN (dcB CU CV CR u v) D) % 2 = 1)
set_option maxHeartbeats 1000000 in
theorem c_isInRegion697 (l : LX B n h) (n64 : n ≤ 64) (hd : 10 ≤ d) (Sm : SgM B h lv U0 V0 U1 V1) (hG : ∀ k, k < 24 → lv k = true → SgK n U0 V0 U1 V1 DU DV SZ k) (hl : ∀ k, lv k = true → k < 24) (Dm : DscM B n h D CU CV CR) (hu : -1000 ≤ u ∧ u ≤ 1000) (hv0 : -1000 ≤ v ∧ v ≤ 1000) (odd : v % 8 ≠ 0) : Vt 0 (cll PP (ev PP (gsF gv) B) d 697 [(2, rf (B + 149)), (0, u), (0, v)] h) (fun x h' => h' = h ∧ x = b2i (rgB lv U0 V0 V1 DU DV D CU CV CR u v)) := by
  refine Vt.inq (D := 9) hd (Nat.le_of_ble_eq_true rfl) rfl (fun d hd Q K => ?_)
  have c24 : cntN lv 24 ≤ 24 := cntN_le _ _
  obtain ⟨F, eF⟩ : ∃ F, F = lcB lv U0 V0 V1 DU DV u v := ⟨_, rfl⟩
  obtain ⟨P, eP⟩ : ∃ P : Nat → Bool, ∀ k, lv k = true → P (cntN lv k) = F k := by
    refine ⟨fun i => @decide (∃ k, lv k = true ∧ cntN lv k = i ∧ F k = true) (Classical.propDecidable _), fun k lk => ?_⟩
    cases z : F k
    · exact @decide_eq_false _ (Classical.propDecidable _) (fun ⟨k', h1, h2, h3⟩ => by rw [cnt_inj h1 lk h2, z] at h3; cases h3)
    · exact @decide_eq_true _ (Classical.propDecidable _) ⟨k, lk, rfl, z⟩
  -- discs
  have discs : ∀ (r i : Nat) (u5 : AV), i + r = D → Ends (ev PP (gsF gv) B d 697 167 [(2, rf (B + 149)), (0, u), (0, v), (0, parI (cntN F 24 + cntN (dcB CU CV CR u v) i)), (0, (i : Int)), u5] [] h) Q := by
    intro r
    induction r with
    | zero =>
      intro i u5 ei
      obtain rfl : i = D := by omega
      refine Ends.eq (b697_167 (n := n) (by (repeat' first | assumption | refine LX.setF _ _ ?_ (by decide +kernel) | refine LX.setS ?_ rfl | refine LX.setA ?_ (by first | assumption | omega))) (by first | assumption | omega)) ?_
      rw [Dm.1.1]
      refine Ends.b3 (fun _ => Ends.g par_01 (Ends.sm (K _ _ ⟨rfl, ?_⟩))) (fun z => absurd z (Int.lt_irrefl _))
      unfold rgB parI
      rw [← eF]
      by_cases z : (cntN F 24 + cntN (dcB CU CV CR u v) i) % 2 = 1
      · rw [decide_eq_true z, z]; rfl
      · rw [decide_eq_false z, show (cntN F 24 + cntN (dcB CU CV CR u v) i) % 2 = 0 by omega]; rfl
    | succ r ih =>
      intro i u5 ei
      have D6 := Dm.1.2
      obtain ⟨⟨y1, y2, y3⟩, b1, b2, b3⟩ := Dm.2 i (by omega)
      have e1 : bop32 104 8 (CU i) = 8 * CU i := mul32 (by omega) (by omega)
      have e2 : bop32 104 8 (CV i) = 8 * CV i := mul32 (by omega) (by omega)
      have e3 : bop32 100 u (8 * CU i) = u - 8 * CU i := sub32 (by omega) (by omega)
      have e4 : bop32 100 v (8 * CV i) = v - 8 * CV i := sub32 (by omega) (by omega)
      have e5 := v695_is (r := CR i) (x := u - 8 * CU i) (y := v - 8 * CV i) (by omega) (by omega) (by omega)
      rw [show und (CR i) (u - 8 * CU i) (v - 8 * CV i) 0 = dcB CU CV CR u v i from rfl] at e5
      refine Ends.eq (b697_167 (n := n) (by (repeat' first | assumption | refine LX.setF _ _ ?_ (by decide +kernel) | refine LX.setS ?_ rfl | refine LX.setA ?_ (by first | assumption | omega))) (by first | assumption | omega)) ?_
      simp only [tn]
      rw [Dm.1.1, y1, y2, y3, e1, e2, e3, e4, e5, ct0, ct1, par_tog, w_succ (by omega)]
      clear e1 e2 e3 e4 e5
      refine Ends.b3 (fun z => absurd z (by omega)) (fun _ => Ends.g ⟨by omega, by omega⟩ ?_)
      have go := ih (i + 1) u5 (by omega)
      rw [cntN_s (dcB CU CV CR u v) i] at go
      cases z : dcB CU CV CR u v i
      · rw [z] at go
        exact go
      · rw [z] at go
        exact go
  have key : ∀ (r i : Nat) (u5 : AV), i + r = cntN lv 24 → Ends (ev PP (gsF gv) B d 697 5 [(2, rf (B + 149)), (0, u), (0, v), (0, parI (cntN P i)), (0, (i : Int)), u5] [] h) Q := by
    intro r
    induction r with
    | zero =>
      intro i u5 ei
      obtain rfl : i = cntN lv 24 := by omega
      refine Ends.eq (b697_5 (n := n) (by (repeat' first | assumption | refine LX.setF _ _ ?_ (by decide +kernel) | refine LX.setS ?_ rfl | refine LX.setA ?_ (by first | assumption | omega))) (by first | assumption | omega)) ?_
      rw [Sm.1, cnt_ml eP (fun k z => by rw [eF]; unfold lcB; rw [z]; rfl)]
      exact Ends.b3 (fun _ => discs D 0 _ (by omega)) (fun z => absurd z (Int.lt_irrefl _))
    | succ r ih =>
      intro i u5 ei
      obtain ⟨k, hk, lk, ck⟩ := cnt_at (S := lv) 24 i (by omega)
      obtain ⟨y1, y2, y3, y4⟩ := Sm.2 k hk lk
      rw [ck] at y1 y2 y3 y4
      have pk : P i = cxB U0 V0 V1 DU DV 8 u v k := by
        rw [← ck, eP k lk, eF]
        unfold lcB
        rw [lk, Bool.true_and]
      have skip : P i = false → ∀ u5 : AV, Ends (ev PP (gsF gv) B d 697 158 [(2, rf (B + 149)), (0, u), (0, v), (0, parI (cntN P i)), (0, (i : Int)), u5] [] h) Q := fun z u5 => by
        refine Ends.eq (b697_158 (n := n) (by (repeat' first | assumption | refine LX.setF _ _ ?_ (by decide +kernel) | refine LX.setS ?_ rfl | refine LX.setA ?_ (by first | assumption | omega))) (by first | assumption | omega)) ?_
        rw [w_succ (by omega), show cntN P i = cntN P (i + 1) from by rw [cntN_s, z]; rfl]
        exact ih (i + 1) _ (by omega)
      have take : P i = true → ∀ u5 : AV, Ends (ev PP (gsF gv) B d 697 158 [(2, rf (B + 149)), (0, u), (0, v), (0, parI (cntN P i + 1)), (0, (i : Int)), u5] [] h) Q := fun z u5 => by
        refine Ends.eq (b697_158 (n := n) (by (repeat' first | assumption | refine LX.setF _ _ ?_ (by decide +kernel) | refine LX.setS ?_ rfl | refine LX.setA ?_ (by first | assumption | omega))) (by first | assumption | omega)) ?_
        rw [w_succ (by omega), show cntN P i + 1 = cntN P (i + 1) from by rw [cntN_s, z]; rfl]
        exact ih (i + 1) _ (by omega)
      have G := hG k hk lk
      obtain ⟨⟨D8_, s1⟩, ⟨g1, g2⟩, bu, bv, bu1, bv1, s2⟩ := id G
      obtain ⟨f1, f2, f3, f4⟩ := ln_cr (U0 := U0) (V0 := V0) (V1 := V1) (DU := DU) (DV := DV) (k := k) (u := u) (v := v) (Or.inr rfl : (8 : Int) = 2 ∨ (8 : Int) = 8) odd
      have sl : V0 k ≠ V1 k → bop32 108 (bop32 100 (U1 k) (U0 k)) (bop32 100 (V1 k) (V0 k)) = DU k * DV k := fun z => slope_is n64 G z
      have no : ¬ cxP U0 V0 V1 DU DV 8 u v k → P i = false := fun z => by rw [pk, cxB_f z]
      have e1 : bop32 104 8 (v892 (V0 k) (V1 k)) = 8 * min (V0 k) (V1 k) := by rw [v892_is]; exact mul32 (by omega) (by omega)
      have e2 : bop32 104 8 (v891 (V0 k) (V1 k)) = 8 * max (V0 k) (V1 k) := by rw [v891_is]; exact mul32 (by omega) (by omega)
      have e3 : bop32 104 8 (U0 k) = 8 * U0 k := mul32 (by omega) (by omega)
      have e4 : bop32 104 8 (V0 k) = 8 * V0 k := mul32 (by omega) (by omega)
      have e5 : bop32 100 v (8 * V0 k) = v - 8 * V0 k := sub32 (by omega) (by omega)
      have e9 : bop32 100 (V1 k) (V0 k) = V1 k - V0 k := sub32 (by omega) (by omega)
      have dd : DU k * DV k = -1 ∨ DU k * DV k = 0 ∨ DU k * DV k = 1 := by
        obtain ⟨h1, h2, -⟩ := D8_
        rcases h1 with h1 | h1 | h1 <;> rcases h2 with h2 | h2 | h2 <;> rw [h1, h2] <;> decide
      obtain ⟨e6, b6⟩ := mul_t (t := v - 8 * V0 k) dd (by omega)
      rw [Int.mul_comm] at e6 b6
      have e6' : bop32 104 (DU k * DV k) (v - 8 * V0 k) = DU k * DV k * (v - 8 * V0 k) := mul32 (by omega) (by omega)
      have e7 : bop32 96 (8 * U0 k) (DU k * DV k * (v - 8 * V0 k)) = 8 * U0 k + DU k * DV k * (v - 8 * V0 k) := add32 (by omega) (by omega)
      refine Ends.eq (b697_5 (n := n) (by (repeat' first | assumption | refine LX.setF _ _ ?_ (by decide +kernel) | refine LX.setS ?_ rfl | refine LX.setA ?_ (by first | assumption | omega))) (by first | assumption | omega)) ?_
      simp only [tn]
      rw [Sm.1, y1, y2, y3, y4, e1, e2, e3, e4, e5, ct5, ct1, par_tog]
      refine Ends.b3 (fun z => absurd z (by omega)) (fun _ => Ends.g ⟨by omega, by omega⟩ (Ends.b1 (fun zv => Ends.b2 (fun z => skip (no (f2 z)) _) (fun z2 => Ends.b5 (fun z3 => ?_) (fun z => skip (no (f3 (by omega))) _))) (fun z => skip (no (f1 z)) _)))
      rw [sl zv, e6', e7, e9]
      clear e1 e2 e3 e4 e5 e6 e6' e7 e9 sl
      refine Ends.g (fun z => zv (by omega)) ?_
      have iff_ := f4 zv (by omega) (by omega)
      by_cases c3 : u < 8 * U0 k + DU k * DV k * (v - 8 * V0 k)
      · rw [if_pos c3]
        exact take (by rw [pk, cxB_t.mpr (iff_.mpr c3)]) _
      · rw [if_neg c3]
        exact skip (no (fun y => c3 (iff_.mp y))) _
  refine Ends.eq (b697_0 (n := n) (by (repeat' first | assumption | refine LX.setF _ _ ?_ (by decide +kernel) | refine LX.setS ?_ rfl | refine LX.setA ?_ (by first | assumption | omega))) (by first | assumption | omega)) ?_
  exact key (cntN lv 24) 0 _ (by omega)
end REG
