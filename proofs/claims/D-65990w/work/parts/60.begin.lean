/-! L3: Flood.begin, when the cells are there already -/
section BEGIN
variable {gv : Nat → Int} {B n d : Nat} {h : AH}
theorem c_beginOn (l : LX B n h) (hd : 11 ≤ d) (hn : n ≤ 52) {se wi : Nat} (e2 : hv h (B + 81) 2 = rf se) (hs : hk h se = (3, 24 * n * n)) (sb : B + 246 ≤ se) :
    Vd (cll PP (ev PP (gsF gv) B) d 176 [(2, rf (B + 81)), (2, rf wi)] h) (fun h' => Fr (fun c => c = se ∨ c = B + 81) h h' ∧ (∀ k, k < 24 * n * n → hv h' se k = 0) ∧ hv h' (B + 81) 8 = rf wi ∧ ∀ k, k ≠ 8 → hv h' (B + 81) k = hv h (B + 81) k) := by
  have hN := rows_le hn
  refine Vd.into (D := 10) hd (Nat.le_of_ble_eq_true rfl) rfl (fun d hd => Ends.eq (b176_0 (u2 := (9, 0)) l (by omega)) ?_)
  rw [e2]
  refine Ends.b0 (fun z => by unfold rf at z; omega) (fun _ => ?_)
  refine Ends.eq (b176_59 l (by omega)) ?_
  refine lp ((24*n*n)) (fun i L q => ∃ (z0 : Nat), L = [(2, rf (B + 81)), (2, (rf wi)), (0, ((i : Int)))] ∧ LX B n q ∧ i ≤ (24*n*n) ∧ Fr (fun c => c = se) h q ∧ ∀ k, k < i → hv q se k = 0) ?_ ?_ (0) ⟨0, rfl, (by (repeat' first | assumption | refine LX.setF _ _ ?_ (by decide +kernel) | refine LX.setS ?_ rfl | refine LX.setA ?_ (by assumption))), by omega, ?_⟩
  · rintro i _ q hi ⟨z0, rfl, lq, hiN, ⟨f1, s1⟩⟩ ihi
    have q2 : hv q (B + 81) 2 = rf se := (f1.1 (B + 81) (by omega) 2).trans e2
    have qk : hk q se = (3, 24 * n * n) := (f1.2.1 se).trans hs
    refine Ends.eq (b176_61 (n := n) (by (repeat' first | assumption | refine LX.setF _ _ ?_ (by decide +kernel) | refine LX.setS ?_ rfl | refine LX.setA ?_ (by first | assumption | omega))) (by first | assumption | omega)) ?_
    rw [q2, ad_rf, tn, qk]
    refine Ends.b3 (fun _ => by omega) (fun _ => Ends.g ⟨by unfold rf; omega, rfl, by omega, by omega, by omega⟩ ?_)
    rw [w_succ (by omega)]
    have l4 : LX B n (hset q se i (anar 1 (0 : Int))) := LX.setA (t := 1) lq (by rw [qk])
    refine ihi _ _ ⟨0, rfl, (by (repeat' first | assumption | refine LX.setF _ _ ?_ (by decide +kernel) | refine LX.setS ?_ rfl | refine LX.setA ?_ (by assumption))), by omega, ?_⟩
    refine ⟨f1.tr (Fr.set rfl), fun k hk => ?_⟩
    rw [hv_set, if_pos rfl]
    split
    · rfl
    · exact s1 k (by omega)
  · rintro i _ q hi ⟨z0, rfl, lq, hiN, ⟨f1, s1⟩⟩
    obtain rfl : i = 24 * n * n := by omega
    refine Ends.eq (b176_61 (n := n) (by (repeat' first | assumption | refine LX.setF _ _ ?_ (by decide +kernel) | refine LX.setS ?_ rfl | refine LX.setA ?_ (by first | assumption | omega))) (by first | assumption | omega)) ?_
    refine Ends.b3 (fun _ => ?_) (fun _ => by omega)
    refine Ends.sm ⟨_, rfl, (f1.sub (fun c e => Or.inl e)).tr (Fr.set (Or.inr rfl)), fun k hk => ?_, hv_set_at _ _ _ _, fun k hk => ?_⟩
    · rw [hv_na (by omega)]; exact s1 k hk
    · rw [hv_nk hk]; exact f1.1 (B + 81) (by omega) k
  · exact ⟨Fr.rf, fun k hk => absurd hk (by omega)⟩
end BEGIN
