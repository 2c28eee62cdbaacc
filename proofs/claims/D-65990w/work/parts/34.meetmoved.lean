/-! L3: meetMoved -/
/-- no row below p has a bit of both -/
def NoM (n : Nat) (R K : Nat → Nat → Bool) (p : Nat) : Prop := ∀ k x, k < p → k < 24 * n * n → x < n → (R k x && K k x) = false
theorem NoM.skip {n p p' : Nat} {R K : Nat → Nat → Bool} (u : NoM n R K p) (hK : ∀ k x, p ≤ k → k < p' → k < 24 * n * n → x < n → K k x = false) : NoM n R K p' := by
  intro k x h1 h2 h3
  by_cases h4 : k < p
  · exact u k x h4 h2 h3
  · rw [hK k x (by omega) h1 h2 h3, Bool.and_false]
section MEETM
variable {gv : Nat → Int} {B n d a b : Nat} {h : AH} {R T : Nat → Nat → Bool}
theorem c_meetMoved (l : LX B n h) (hd : 10 ≤ d) (hn0 : 0 < n) (hn : n ≤ 52) (sa : Sol n h a R) (sb : Sol n h b T) {dx dy dz : Int} (bx : -10000000 ≤ dx ∧ dx ≤ 10000000) (by_ : -10000000 ≤ dy ∧ dy ≤ 10000000) (bz : -10000000 ≤ dz ∧ dz ≤ 10000000) :
    Vt 0 (cll PP (ev PP (gsF gv) B) d 351 [(2, rf (B + 51)), (2, rf a), (2, rf b), (0, dx), (0, dy), (0, dz)] h) (fun v h' => h' = h ∧ ((v = 0 ∧ NoM n R (onK n (mvd n T dx dy dz)) (24 * n * n)) ∨ (v = 1 ∧ ∃ k x, k < 24 * n * n ∧ x < n ∧ (R k x && onK n (mvd n T dx dy dz) k x) = true))) := by
  have hN := rows_le hn
  have ka := sa.1
  have kb := sb.1
  refine Vt.into (D := 9) hd (Nat.le_of_ble_eq_true rfl) rfl (fun d hd => Ends.eq (b351_0 l hd) ?_)
  refine upto (σ := AV × AV) 24 (fun t _ => NoM n R (onK n (mvd n T dx dy dz)) (rw3 n t 0 0)) (fun t s => ev PP (gsF gv) B d 351 3 [(2, rf (B + 51)), (2, rf a), (2, rf b), (0, dx), (0, dy), (0, dz), (0, (t : Int)), s.1, s.2] [] h) ?_ ?_ 0 ((9, 0), (9, 0)) (Nat.zero_le _) (by
    have : rw3 n 0 0 0 = 0 := by unfold rw3; simp
    rw [this]; exact fun k x h1 => by omega)
  · rintro t ⟨u7, u8⟩ ht hI iht
    refine Ends.eq (b351_3 l hd) ?_
    refine Ends.b3 (fun _ => by omega) (fun _ => ?_)
    rw [max0]
    refine loop (σ := Nat × AV) (fun q => n - q.1) (fun q => dz ≤ (q.1 : Int) ∧ q.1 ≤ 20000000 ∧ NoM n R (onK n (mvd n T dx dy dz)) (rw3 n t (min q.1 n) 0)) (fun q => ev PP (gsF gv) B d 351 18 [(2, rf (B + 51)), (2, rf a), (2, rf b), (0, dx), (0, dy), (0, dz), (0, (t : Int)), (0, (q.1 : Int)), q.2] [] h) ?_ (dz.toNat, u8) ⟨by omega, by omega, hI.skip (fun k x h1 h2 hk hx => ?_)⟩
    · rintro ⟨z, u8⟩ ⟨hz0, hz1, hU⟩ ihz
      dsimp only at hz0 hz1 hU ihz ⊢
      have out : ((n : Int) ≤ z ∨ (n : Int) ≤ (z : Int) - dz) → Ends (ev PP (gsF gv) B d 351 128 [(2, rf (B + 51)), (2, rf a), (2, rf b), (0, dx), (0, dy), (0, dz), (0, (t : Int)), (0, (z : Int)), u8] [] h) (fun r => ∃ x h', r = ((0, (0, x)), h') ∧ h' = h ∧ ((x = 0 ∧ NoM n R (onK n (mvd n T dx dy dz)) (24 * n * n)) ∨ (x = 1 ∧ ∃ k x, k < 24 * n * n ∧ x < n ∧ (R k x && onK n (mvd n T dx dy dz) k x) = true))) := by
        intro hc
        refine Ends.eq (b351_128 l hd) ?_
        rw [w_succ (by omega)]
        refine iht ((0, (z : Int)), u8) ?_
        rw [rw3_t]
        refine hU.skip (fun k x h1 h2 hk hx => ?_)
        obtain ⟨e1, e2, e3⟩ := rng_z hn0 h1 h2 (Nat.le_refl _)
        unfold onK mvd
        have : ¬ (0 ≤ ((k / n % n : Nat) : Int) - dz ∧ ((k / n % n : Nat) : Int) - dz < n ∧ 0 ≤ ((k % n : Nat) : Int) - dy ∧ ((k % n : Nat) : Int) - dy < n) := by
          intro q
          have := q.2.1
          rcases hc with hc | hc <;> omega
        simp only [this, decide_false, Bool.false_and]
      refine Ends.eq (b351_18 l hd) ?_
      refine Ends.b3 (fun hc => out (Or.inl hc)) (fun hc => ?_)
      rw [subN (by omega) (by omega) (by omega) (by omega)]
      refine Ends.b3 (fun hc2 => out (Or.inr hc2)) (fun hc2 => ?_)
      rw [max0]
      have hzn : z < n := by omega
      rw [Nat.min_eq_left (by omega)] at hU
      refine loop (σ := Nat) (fun q => n - q) (fun q => dy ≤ (q : Int) ∧ q ≤ 20000000 ∧ NoM n R (onK n (mvd n T dx dy dz)) (rw3 n t z (min q n))) (fun q => ev PP (gsF gv) B d 351 47 [(2, rf (B + 51)), (2, rf a), (2, rf b), (0, dx), (0, dy), (0, dz), (0, (t : Int)), (0, (z : Int)), (0, (q : Int))] [] h) ?_ dy.toNat ⟨by omega, by omega, hU.skip (fun k x h1 h2 hk hx => ?_)⟩
      · rintro y ⟨hy0, hy1, hV⟩ ihy
        have outy : ((n : Int) ≤ y ∨ (n : Int) ≤ (y : Int) - dy) → Ends (ev PP (gsF gv) B d 351 122 [(2, rf (B + 51)), (2, rf a), (2, rf b), (0, dx), (0, dy), (0, dz), (0, (t : Int)), (0, (z : Int)), (0, (y : Int))] [] h) (fun r => ∃ x h', r = ((0, (0, x)), h') ∧ h' = h ∧ ((x = 0 ∧ NoM n R (onK n (mvd n T dx dy dz)) (24 * n * n)) ∨ (x = 1 ∧ ∃ k x, k < 24 * n * n ∧ x < n ∧ (R k x && onK n (mvd n T dx dy dz) k x) = true))) := by
          intro hc
          refine Ends.eq (b351_122 l hd) ?_
          rw [w_succ (by omega)]
          refine ihz (z + 1, (0, (y : Int))) (by show n - (z + 1) < n - z; omega) ⟨by show dz ≤ ((z + 1 : Nat) : Int); omega, by show z + 1 ≤ 20000000; omega, ?_⟩
          show NoM n R (onK n (mvd n T dx dy dz)) (rw3 n t (min (z + 1) n) 0)
          rw [Nat.min_eq_left (by omega), rw3_z]
          refine hV.skip (fun k x h1 h2 hk hx => ?_)
          obtain ⟨e1, e2, e3, e4⟩ := rng_y hzn h1 h2 (Nat.le_refl _)
          unfold onK mvd
          have : ¬ (0 ≤ ((k / n % n : Nat) : Int) - dz ∧ ((k / n % n : Nat) : Int) - dz < n ∧ 0 ≤ ((k % n : Nat) : Int) - dy ∧ ((k % n : Nat) : Int) - dy < n) := by
            intro q
            have := q.2.2.2
            rcases hc with hc | hc <;> omega
          simp only [this, decide_false, Bool.false_and]
        refine Ends.eq (b351_47 l hd) ?_
        refine Ends.b3 (fun hc3 => outy (Or.inl hc3)) (fun hc3 => ?_)
        rw [subN (x := (y : Int)) (by omega) (by omega) (by omega) (by omega)]
        refine Ends.b3 (fun hc4 => outy (Or.inr hc4)) (fun hc4 => ?_)
        have hyn : y < n := by omega
        rw [Nat.min_eq_left (by omega)] at hV
        have hp := rw3_lt ht hzn hyn
        obtain ⟨zz, ez⟩ : ∃ zz : Nat, (z : Int) - dz = (zz : Int) := ⟨((z : Int) - dz).toNat, by omega⟩
        obtain ⟨yy, ey⟩ : ∃ yy : Nat, (y : Int) - dy = (yy : Int) := ⟨((y : Int) - dy).toNat, by omega⟩
        have hq := rw3_lt ht (show zz < n by omega) (show yy < n by omega)
        rw [subN (x := (z : Int)) (by omega) (by omega) (by omega) (by omega), ez, ey]
        simp only [ad_rf, ka, kb, row_eq hn ht hzn hyn, row_eq hn ht (show zz < n by omega) (show yy < n by omega), tn]
        have hK : ∀ x, onK n (mvd n T dx dy dz) (rw3 n t z y) x = (decide (0 ≤ (x : Int) - dx ∧ (x : Int) - dx < n) && T (rw3 n t zz yy) ((x : Int) - dx).toNat) := by
          intro x
          rw [onK_at hzn hyn]
          unfold mvd
          rw [ez, ey]
          have : (0 ≤ (zz : Int) ∧ (zz : Int) < n ∧ 0 ≤ (yy : Int) ∧ (yy : Int) < n) := ⟨by omega, by omega, by omega, by omega⟩
          rw [show decide (0 ≤ (zz : Int) ∧ (zz : Int) < n ∧ 0 ≤ (yy : Int) ∧ (yy : Int) < n) = true by simp only [this, and_self, decide_true], Bool.true_and]
          rfl
        have hbit : ∀ x, x < 64 → tb (bop64 127 (hv h a (rw3 n t z y)) (v355 (hv h b (rw3 n t zz yy)) dx)) x = (decide (x < n) && (R (rw3 n t z y) x && onK n (mvd n T dx dy dz) (rw3 n t z y) x)) := by
          intro x hx
          rw [tb_and, shifted_bits (n := n) (T := T (rw3 n t zz yy)) hn (sb.2 _ hq).2 (by omega) (by omega) hx, (sa.2 _ hp).2 x hx, hK, Bool.and_assoc]
        have hz9 := row_same (n := n) (R := fun k x => R k x && onK n (mvd n T dx dy dz) k x) (T := fun _ _ => false) (k := rw3 n t z y) (u := bop64 127 (hv h a (rw3 n t z y)) (v355 (hv h b (rw3 n t zz yy)) dx)) (v := 0) cn_bop64 ⟨by decide, by decide⟩ hbit (fun x hx => by rw [tb_0]; simp) hn
        (repeat' first
          | (exfalso; omega)
          | refine Ends.g (by first | ((repeat' (refine And.intro ?_ ?_)) <;> first | exact rf_pos _ | exact trivial | rfl | assumption | omega | decide)) ?_
          | refine Ends.b0 (fun _ => ?_) (fun _ => ?_)
          | refine Ends.b1 (fun _ => ?_) (fun _ => ?_)
          | refine Ends.b2 (fun _ => ?_) (fun _ => ?_)
          | refine Ends.b3 (fun _ => ?_) (fun _ => ?_)
          | refine Ends.b4 (fun _ => ?_) (fun _ => ?_)
          | refine Ends.b5 (fun _ => ?_) (fun _ => ?_))
        · next q =>
          rw [w_succ (by omega)]
          refine ihy (y + 1) (by omega) ⟨by omega, by omega, ?_⟩
          rw [Nat.min_eq_left (by omega), rw3_y]
          intro k x h1 h2 h3
          by_cases e : k = rw3 n t z y
          · subst e; exact hz9.mp (cmp64_z.mp q) x h3
          · exact hV k x (by omega) h2 h3
        · next q =>
          refine Ends.sm ⟨_, _, rfl, rfl, Or.inr ⟨rfl, ?_⟩⟩
          apply Classical.byContradiction
          intro hno
          refine q (cmp64_z.mpr (hz9.mpr (fun x hx => ?_)))
          cases hR : (R (rw3 n t z y) x && onK n (mvd n T dx dy dz) (rw3 n t z y) x)
          · rfl
          · exact absurd ⟨_, x, hp, hx, hR⟩ hno
      · obtain ⟨e1, e2, e3, e4⟩ := rng_y hzn h1 h2 (Nat.min_le_right _ _)
        unfold onK mvd
        have : ¬ (0 ≤ ((k / n % n : Nat) : Int) - dz ∧ ((k / n % n : Nat) : Int) - dz < n ∧ 0 ≤ ((k % n : Nat) : Int) - dy ∧ ((k % n : Nat) : Int) - dy < n) := by
          intro q
          have := q.2.2.1
          have : k % n < dy.toNat := Nat.lt_of_lt_of_le e4 (Nat.min_le_left _ _)
          omega
        simp only [this, decide_false, Bool.false_and]
    · obtain ⟨e1, e2, e3⟩ := rng_z hn0 h1 h2 (Nat.min_le_right _ _)
      unfold onK mvd
      have : ¬ (0 ≤ ((k / n % n : Nat) : Int) - dz ∧ ((k / n % n : Nat) : Int) - dz < n ∧ 0 ≤ ((k % n : Nat) : Int) - dy ∧ ((k % n : Nat) : Int) - dy < n) := by
        intro q
        have := q.1
        have : k / n % n < dz.toNat := Nat.lt_of_lt_of_le e3 (Nat.min_le_left _ _)
        omega
      simp only [this, decide_false, Bool.false_and]
  · rintro ⟨u7, u8⟩ hI
    refine Ends.eq (b351_3 l hd) ?_
    refine Ends.b3 (fun _ => Ends.sm ⟨_, _, rfl, rfl, Or.inl ⟨rfl, ?_⟩⟩) (fun _ => by omega)
    have : rw3 n 24 0 0 = 24 * n * n := by unfold rw3; simp
    rw [← this]; exact hI
end MEETM
