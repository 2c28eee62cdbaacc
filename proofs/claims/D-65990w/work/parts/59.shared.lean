/-! L3: Rows.shared: the cell of slot k, made at first use -/
section SHARED
variable {gv : Nat → Int} {B n d : Nat} {h : AH}
theorem c_shared (l : LX B n h) (hd : 11 ≤ d) (hn : n ≤ 52) {k : Nat} (hk6 : k < 6) :
    Vt 2 (cll PP (ev PP (gsF gv) B) d 354 [(2, rf (B + 51)), (0, (k : Int))] h) (fun v h' =>
      (¬ hv h (B + 53) k = 0 ∧ v = hv h (B + 53) k ∧ h' = h) ∨
      (hv h (B + 53) k = 0 ∧ v = rf (hnx h) ∧ h' = hset (hnew h (3, 24 * n * n) (24 * n * n)) (B + 53) k (rf (hnx h)))) := by
  have tk : Int.toNat (k : Int) = k := rfl
  have hx := l.2.2
  refine Vt.into (D := 10) hd (Nat.le_of_ble_eq_true rfl) rfl (fun d hd => Ends.eq (b354_0 l (by omega)) ?_)
  rw [tk]
  refine Ends.g ⟨by omega, by omega⟩ (Ends.b0 (fun z => ?_) (fun z => ?_))
  · refine Ends.ct l (by decide +kernel) (by decide) (c_made l (by omega) hn) (fun v h2 l2 _ _ _ ⟨e1, e2⟩ => ?_)
    subst e1
    subst e2
    refine Ends.eq (b354_18 l2 (by omega)) ?_
    have hk3 : hk (hnew h (3, 24 * n * n) (24 * n * n)) (B + 53) = (1 + 4 + 2, 6) := lk_53 l2
    rw [ad_rf, ad_rf, tk, hk3]
    have l3 : LX B n (hset (hnew h (3, 24 * n * n) (24 * n * n)) (B + 53) k (rf (hnx h))) := LX.setA (t := 5) l2 (by rw [hk3])
    refine Ends.g ⟨by unfold rf; omega, rfl, by omega, by omega, by omega, Or.inr ⟨by unfold rf; omega, by rw [hk_new, if_pos rfl]; rfl⟩⟩ ?_
    refine Ends.eq (b354_19 l3 (by omega)) (Ends.g ⟨by omega, by omega⟩ (Ends.sm ⟨_, _, rfl, Or.inr ⟨z, ?_, rfl⟩⟩))
    exact hv_set_at _ _ _ _
  · refine Ends.eq (b354_19 l (by omega)) (Ends.g ⟨by omega, by omega⟩ (Ends.sm ⟨_, _, rfl, Or.inl ⟨z, rfl, rfl⟩⟩))
end SHARED
