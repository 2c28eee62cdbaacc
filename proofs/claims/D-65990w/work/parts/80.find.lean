/-! L3: Formulas.find: the VALUE whose name is the sign -/
section FIND
variable {gv : Nat → Int} {B n d a : Nat} {h : AH} {c : Nat → Int}
theorem i195 {v i : Nat} (hv1 : v < 100) (hi : i < 100) : bop32 96 (bop32 96 (v187 (v : Int)) 1) (bop32 108 (i : Int) 4) = ((40 + 248 * v + 1 + i / 4 : Nat) : Int) := by
  rw [cl_of (by omega), show bop32 108 (i : Int) 4 = ((i / 4 : Nat) : Int) from divNN (y := 4) (by omega) (by decide), b_at (by omega)]
set_option maxHeartbeats 1000000 in
theorem c_find (l : LX B n h) (hd : 10 ≤ d) {f t nv N : Nat} (h3 : hv h (B + 8) 3 = (f : Int)) (h4 : hv h (B + 8) 4 = ((f + t : Nat) : Int)) (h0 : hv h (B + 8) 0 = rf a) (ka : hk h a = (4, N)) (hN : f + t ≤ N) (hN2 : N ≤ 100000) (ht : t ≤ 12) (hc : ∀ z, z < 37368 → hv h (B + 2) z = c z) (hnv : c 0 = (nv : Int)) (hn : nv ≤ 40) :
    Vt 0 (cll PP (ev PP (gsF gv) B) d 195 [(2, rf (B + 7))] h) (fun v h' => v = fdN (nmP c (hv h a) f t) nv 0 ∧ h' = h) := by
  refine Vt.into (D := 9) hd (Nat.le_of_ble_eq_true rfl) rfl (fun d hd => ?_)
  refine Ends.eq (b195_0 (n := n) (by (repeat' first | assumption | refine LX.setF _ _ ?_ (by decide +kernel) | refine LX.setS ?_ rfl | refine LX.setA ?_ (by first | assumption | omega))) (by first | assumption | omega)) ?_
  rw [h3, h4, subNN (by omega) (by omega), show f + t - f = t by omega]
  refine lp (nv) (fun y L q => ∃ (z0 : Nat), ∃ u3 u4 : AV, L = [(2, rf (B + 7)), (0, ((t : Int))), (0, ((y : Int))), u3, u4] ∧ LX B n q ∧ y ≤ nv ∧ q = h ∧ fdN (nmP c (hv h a) f t) nv 0 = fdN (nmP c (hv h a) f t) (nv - y) y) ?_ ?_ (0) ⟨0, _, _, rfl, (by (repeat' first | assumption | refine LX.setF _ _ ?_ (by decide +kernel) | refine LX.setS ?_ rfl | refine LX.setA ?_ (by assumption))), by omega, ?_⟩
  · rintro y _ q hy ⟨z0, uq0, uq1, rfl, lq, hyN, ⟨rfl, e⟩⟩ ihy
    have es : fdN (nmP c (hv q a) f t) (nv - y) y = itP (nmP c (hv q a) f t y) (y : Int) (fdN (nmP c (hv q a) f t) (nv - (y + 1)) (y + 1)) := by
      rw [show nv - y = (nv - (y + 1)) + 1 by omega]; rfl
    have no : ¬ nmP c (hv q a) f t y → ∀ u3 u4 : AV, Ends (ev PP (gsF gv) B d 195 132 [(2, rf (B + 7)), (0, (t : Int)), (0, (y : Int)), u3, u4] [] q) (fun r => ∃ x h', r = ((0, (0, x)), h') ∧ x = fdN (nmP c (hv q a) f t) nv 0 ∧ h' = q) := by
      intro hP u3 u4
      refine Ends.eq (b195_132 (n := n) (by (repeat' first | assumption | refine LX.setF _ _ ?_ (by decide +kernel) | refine LX.setS ?_ rfl | refine LX.setA ?_ (by first | assumption | omega))) (by first | assumption | omega)) ?_
      rw [w_succ (by omega)]
      refine ihy _ _ ⟨0, _, _, rfl, (by (repeat' first | assumption | refine LX.setF _ _ ?_ (by decide +kernel) | refine LX.setS ?_ rfl | refine LX.setA ?_ (by assumption))), by omega, ?_⟩
      refine ⟨rfl, ?_⟩
      rw [e, es, itP_f hP]
    refine Ends.eq (b195_18 (n := n) (by (repeat' first | assumption | refine LX.setF _ _ ?_ (by decide +kernel) | refine LX.setS ?_ rfl | refine LX.setA ?_ (by first | assumption | omega))) (by first | assumption | omega)) ?_
    have k1 : v447 B q (v187 (y : Int)) = c (40 + 248 * y) := by
      unfold v447
      rw [cl_of (by omega), tn]; exact hc _ (by omega)
    have k2 : q447 B q (v187 (y : Int)) := by
      unfold q447
      rw [cl_of (by omega)]; omega
    have k3 : v447 B q 0 = (nv : Int) := (hc 0 (by omega)).trans hnv
    rw [k3, k1]
    refine Ends.g (show (0 : Int) ≤ 0 ∧ (0 : Int) < ((37368 : Nat) : Int) by omega) (Ends.b3 (fun _ => by omega) (fun _ => Ends.g k2 (Ends.b0 (fun z => ?_) (fun z => no (fun w => z w.1) _ _))))
    clear k1 k2 k3
    refine lp t (fun i L r => (∃ x3 : Int, L = [(2, rf (B + 7)), (0, (t : Int)), (0, (y : Int)), (0, x3), (0, (i : Int))] ∧ ((x3 = 1 ∧ ∀ j, j < i → uop 4 (bop32 122 (c (40 + 248 * y + 1 + j / 4)) ((24 - 8 * (j % 4) : Nat) : Int)) = hv q a (f + j)) ∨ (x3 = 0 ∧ ¬ nmP c (hv q a) f t y))) ∧ r = q ∧ i ≤ t) ?_ ?_ 0 ⟨⟨1, rfl, Or.inl ⟨rfl, fun j hj => absurd hj (by omega)⟩⟩, rfl, Nat.zero_le _⟩
    · rintro i _ r hi ⟨⟨x3, rfl, w⟩, rfl, -⟩ ih2
      refine Ends.eq (b195_53 (n := n) (by (repeat' first | assumption | refine LX.setF _ _ ?_ (by decide +kernel) | refine LX.setS ?_ rfl | refine LX.setA ?_ (by first | assumption | omega))) (by first | assumption | omega)) ?_
      have g1 : v447 B r (bop32 96 (bop32 96 (v187 (y : Int)) 1) (bop32 108 (i : Int) 4)) = c (40 + 248 * y + 1 + i / 4) := by
        rw [i195 (by omega) (by omega)]
        unfold v447
        rw [tn]; exact hc _ (by omega)
      have g2 : q447 B r (bop32 96 (bop32 96 (v187 (y : Int)) 1) (bop32 108 (i : Int) 4)) := by
        rw [i195 (by omega) (by omega)]
        unfold q447
        omega
      rw [g1, b_sh, h0, h3, addNN (by omega), ad_rf, ka, tn, w_succ (by omega), tst0]
      clear g1
      refine Ends.b3 (fun _ => by omega) (fun _ => ?_)
      rcases w with ⟨rfl, w⟩ | ⟨rfl, w⟩
      · refine Ends.g ⟨g2, rf_pos _, rfl, by omega, by show _ < ((N : Nat) : Int); omega⟩ ?_
        clear g2
        refine ih2 _ _ ⟨⟨_, rfl, ?_⟩, rfl, hi⟩
        by_cases eq : uop 4 (bop32 122 (c (40 + 248 * y + 1 + i / 4)) ((24 - 8 * (i % 4) : Nat) : Int)) = hv r a (f + i)
        · refine Or.inl ⟨?_, fun j hj => ?_⟩
          · rw [tst1, decide_eq_true eq]; rfl
          · by_cases ej : j = i
            · rw [ej]; exact eq
            · exact w j (by omega)
        · refine Or.inr ⟨?_, fun z2 => eq (z2.2 i hi)⟩
          rw [tst1, decide_eq_false eq]; rfl
      · clear g2
        refine Ends.g trivial (ih2 _ _ ⟨⟨_, rfl, Or.inr ⟨rfl, w⟩⟩, rfl, hi⟩)
    · rintro i _ r hi ⟨⟨x3, rfl, w⟩, rfl, hi2⟩
      obtain rfl : i = t := by omega
      refine Ends.eq (b195_53 (n := n) (by (repeat' first | assumption | refine LX.setF _ _ ?_ (by decide +kernel) | refine LX.setS ?_ rfl | refine LX.setA ?_ (by first | assumption | omega))) (by first | assumption | omega)) ?_
      refine Ends.b3 (fun _ => ?_) (fun _ => by omega)
      rcases w with ⟨rfl, w⟩ | ⟨rfl, w⟩
      · refine Ends.b0 (fun k => absurd k (by decide)) (fun _ => Ends.sm ⟨_, _, rfl, ?_, rfl⟩)
        rw [e, es, itP_t ⟨z, w⟩]
      · exact Ends.b0 (fun _ => no w _ _) (fun k => absurd rfl k)
  · rintro y _ q hy ⟨z0, uq0, uq1, rfl, lq, hyN, ⟨rfl, e⟩⟩
    obtain rfl : y = nv := by omega
    refine Ends.eq (b195_18 (n := n) (by (repeat' first | assumption | refine LX.setF _ _ ?_ (by decide +kernel) | refine LX.setS ?_ rfl | refine LX.setA ?_ (by first | assumption | omega))) (by first | assumption | omega)) ?_
    have k3 : v447 B q 0 = (y : Int) := (hc 0 (by omega)).trans hnv
    rw [k3]
    refine Ends.g (show (0 : Int) ≤ 0 ∧ (0 : Int) < ((37368 : Nat) : Int) by omega) (Ends.b3 (fun _ => Ends.sm ⟨_, _, rfl, ?_, rfl⟩) (fun _ => by omega))
    rw [e, Nat.sub_self]; rfl
  · exact ⟨rfl, rfl⟩
end FIND
