/-! L3: loops over rows that unite something with each row; uniteMoved -/
section DEC
variable {n : Nat}
theorem rw3_dec {k : Nat} (hn0 : 0 < n) (hk : k < 24 * n * n) : k / (n * n) < 24 ∧ k / n % n < n ∧ k % n < n ∧ rw3 n (k / (n * n)) (k / n % n) (k % n) = k := by
  refine ⟨?_, Nat.mod_lt _ hn0, Nat.mod_lt _ hn0, ?_⟩
  · refine Nat.div_lt_of_lt_mul ?_
    rw [Nat.mul_comm (n * n) 24, ← Nat.mul_assoc]; exact hk
  · unfold rw3
    rw [← Nat.div_div_eq_div_mul, Nat.div_add_mod', Nat.div_add_mod']
theorem dec_y {t z y : Nat} (hy : y < n) : rw3 n t z y % n = y := by
  unfold rw3
  rw [Nat.add_comm, Nat.add_mul_mod_self_right, Nat.mod_eq_of_lt hy]
theorem dec_zt {t z y : Nat} (hy : y < n) : rw3 n t z y / n = t * n + z := by
  unfold rw3
  rw [Nat.add_comm, Nat.add_mul_div_right _ _ (by omega), Nat.div_eq_of_lt hy, Nat.zero_add]
theorem dec_z {t z y : Nat} (hz : z < n) (hy : y < n) : rw3 n t z y / n % n = z := by
  rw [dec_zt hy, Nat.add_comm, Nat.add_mul_mod_self_right, Nat.mod_eq_of_lt hz]
theorem dec_t {t z y : Nat} (hz : z < n) (hy : y < n) : rw3 n t z y / (n * n) = t := by
  rw [← Nat.div_div_eq_div_mul, dec_zt hy, Nat.add_comm, Nat.add_mul_div_right _ _ (by omega), Nat.div_eq_of_lt hz, Nat.zero_add]
/-- a picture by sort, z, y, x as one by rows -/
def onK (n : Nat) (M : Nat → Nat → Nat → Nat → Bool) (k x : Nat) : Bool := M (k / (n * n)) (k / n % n) (k % n) x
theorem onK_at {M : Nat → Nat → Nat → Nat → Bool} {t z y x : Nat} (hz : z < n) (hy : y < n) : onK n M (rw3 n t z y) x = M t z y x := by
  unfold onK; rw [dec_t hz hy, dec_z hz hy, dec_y hy]
theorem rw3_y {t z y : Nat} : rw3 n t z (y + 1) = rw3 n t z y + 1 := rfl
theorem rw3_z {t z : Nat} : rw3 n t (z + 1) 0 = rw3 n t z n := by unfold rw3; rw [← Nat.add_assoc, Nat.add_mul]; omega
theorem rw3_t {t : Nat} : rw3 n (t + 1) 0 0 = rw3 n t n 0 := by
  show ((t + 1) * n + 0) * n + 0 = (t * n + n) * n + 0
  rw [Nat.succ_mul]; rfl
theorem rw3_lez {t z z' : Nat} (h : z ≤ z') : rw3 n t z 0 ≤ rw3 n t z' 0 := Nat.mul_le_mul_right _ (Nat.add_le_add_left h _)
theorem rw3_ley {t z y y' : Nat} (h : y ≤ y') : rw3 n t z y ≤ rw3 n t z y' := Nat.add_le_add_left h _
theorem rng_y {t z y1 y2 k : Nat} (hz : z < n) (h1 : rw3 n t z y1 ≤ k) (h2 : k < rw3 n t z y2) (hy : y2 ≤ n) : k / (n * n) = t ∧ k / n % n = z ∧ y1 ≤ k % n ∧ k % n < y2 := by
  obtain ⟨y, rfl⟩ : ∃ y, k = rw3 n t z y := ⟨k - (t * n + z) * n, by unfold rw3 at h1 ⊢; omega⟩
  have h3 : y1 ≤ y := by unfold rw3 at h1; omega
  have h4 : y < y2 := by unfold rw3 at h2; omega
  rw [dec_t hz (by omega), dec_z hz (by omega), dec_y (by omega)]
  exact ⟨rfl, rfl, h3, h4⟩
theorem rng_z {t z1 z2 k : Nat} (hn0 : 0 < n) (h1 : rw3 n t z1 0 ≤ k) (h2 : k < rw3 n t z2 0) (hz : z2 ≤ n) : k / (n * n) = t ∧ z1 ≤ k / n % n ∧ k / n % n < z2 := by
  have h3 : t * n + z1 ≤ k / n := (Nat.le_div_iff_mul_le hn0).mpr (by unfold rw3 at h1; omega)
  have h4 : k / n < t * n + z2 := (Nat.div_lt_iff_lt_mul hn0).mpr (by unfold rw3 at h2; omega)
  have h5 : k / n = (k / n - t * n) + t * n := by omega
  have h6 : k / n - t * n < n := by omega
  have h7 : k / n % n = k / n - t * n := by
    conv => lhs; rw [h5]
    rw [Nat.add_mul_mod_self_right, Nat.mod_eq_of_lt h6]
  have h8 : k / n / n = t := by
    conv => lhs; rw [h5]
    rw [Nat.add_mul_div_right _ _ hn0, Nat.div_eq_of_lt h6, Nat.zero_add]
  rw [← Nat.div_div_eq_div_mul, h8, h7]
  exact ⟨rfl, by omega, by omega⟩
end DEC
/-- rows below p have got their part of K, the others are as they were -/
def Uni (n : Nat) (h : AH) (a : Nat) (R K : Nat → Nat → Bool) (s : AH) (p : Nat) : Prop := Fr (fun c => c = a) h s ∧ Sol n s a (fun k x => R k x || (decide (k < p) && K k x))
section UNI
variable {n a p p' : Nat} {h s : AH} {R K : Nat → Nat → Bool}
theorem Uni.ini (sa : Sol n h a R) : Uni n h a R K h 0 := ⟨Fr.rf, sa.congr (fun k x _ _ => by simp)⟩
theorem Uni.skip (u : Uni n h a R K s p) (hp : p ≤ p') (hK : ∀ k x, p ≤ k → k < p' → k < 24 * n * n → x < n → K k x = false) : Uni n h a R K s p' := by
  refine ⟨u.1, u.2.congr (fun k x hk hx => ?_)⟩
  by_cases h1 : k < p
  · have h2 : k < p' := by omega
    simp [h1, h2]
  · by_cases h2 : k < p'
    · rw [hK k x (by omega) h2 hk hx]; simp
    · simp [h1, h2]
theorem Uni.put (u : Uni n h a R K s p) (hp : p < 24 * n * n) {w : Int} (hw : ∀ x, x < 64 → tb w x = (decide (x < n) && K p x)) : Uni n h a R K (hset s a p (bop64 129 (hv s a p) w)) (p + 1) := by
  refine ⟨u.1.tr (Fr.set rfl), u.2.1, fun k hk => ?_⟩
  rw [hv_set, if_pos rfl]
  by_cases e : k = p
  · subst e
    rw [if_pos rfl]
    refine ⟨cn_bop64, fun x hx => ?_⟩
    rw [tb_or, hw x hx, (u.2.2 k hk).2 x hx]
    have h1 : ¬ k < k := Nat.lt_irrefl _
    have h2 : k < k + 1 := Nat.lt_succ_self _
    simp only [h1, h2, decide_false, decide_true, Bool.false_and, Bool.or_false, Bool.true_and]
    cases decide (x < n) <;> cases R k x <;> cases K k x <;> rfl
  · rw [if_neg e]
    refine ⟨(u.2.2 k hk).1, fun x hx => ?_⟩
    rw [(u.2.2 k hk).2 x hx]
    have : decide (k < p + 1) = decide (k < p) := by
      by_cases h1 : k < p
      · have : k < p + 1 := by omega
        simp [h1, this]
      · have : ¬ k < p + 1 := by omega
        simp [h1, this]
    dsimp only
    rw [this]
theorem Uni.fin (u : Uni n h a R K s (24 * n * n)) : Fr (fun c => c = a) h s ∧ Sol n s a (fun k x => R k x || K k x) :=
  ⟨u.1, u.2.congr (fun k x hk _ => by simp [hk])⟩
end UNI
theorem max0 (x : Int) : v891 0 x = ((x.toNat : Nat) : Int) := by
  unfold v891
  rw [tst2]
  by_cases h : 0 < x
  · simp [h]; omega
  · simp [h]; omega
theorem shifted_bits {n : Nat} {v : Int} {T : Nat → Bool} (hn : n ≤ 52) (hv : ∀ x, x < 64 → tb v x = (decide (x < n) && T x)) {dx : Int} (h1 : -2000000000 ≤ dx) (h2 : dx ≤ 2000000000) {x : Nat} (hx : x < 64) :
    tb (v355 v dx) x = (decide (0 ≤ (x : Int) - dx ∧ (x : Int) - dx < n) && T ((x : Int) - dx).toNat) := by
  unfold v355
  rw [tst3, tst4, tst2]
  by_cases a1 : dx < 64
  · by_cases a2 : -64 < dx
    · by_cases a3 : dx < 0
      · simp only [a1, a2, a3, decide_true, decide_false, Bool.not_true, Bool.not_false, cond_true, cond_false]
        obtain ⟨k, rfl⟩ : ∃ k : Nat, dx = -(k : Int) := ⟨(-dx).toNat, by omega⟩
        rw [neg32 (by omega) (by omega), Int.neg_neg, tb_shr v (by omega)]
        have e : ((x : Int) - -(k : Int)).toNat = k + x := by omega
        rw [e]
        by_cases a4 : k + x < 64
        · rw [hv _ a4]
          congr 1
          by_cases a5 : k + x < n
          · have : 0 ≤ (x : Int) - -(k : Int) ∧ (x : Int) - -(k : Int) < n := ⟨by omega, by omega⟩
            simp only [a5, this, and_self, decide_true]
          · have : ¬ (0 ≤ (x : Int) - -(k : Int) ∧ (x : Int) - -(k : Int) < n) := by omega
            simp only [a5, this, decide_false]
        · rw [tb_big (by omega)]
          have : ¬ (0 ≤ (x : Int) - -(k : Int) ∧ (x : Int) - -(k : Int) < n) := by omega
          simp only [this, decide_false, Bool.false_and]
      · simp only [a1, a2, a3, decide_true, decide_false, Bool.not_true, Bool.not_false, cond_true, cond_false]
        obtain ⟨k, rfl⟩ : ∃ k : Nat, dx = (k : Int) := ⟨dx.toNat, by omega⟩
        rw [tb_shl v (by omega) hx]
        by_cases a4 : k ≤ x
        · rw [hv _ (by omega)]
          have e : ((x : Int) - (k : Int)).toNat = x - k := by omega
          rw [e]
          by_cases a5 : x - k < n
          · have : 0 ≤ (x : Int) - (k : Int) ∧ (x : Int) - (k : Int) < n := ⟨by omega, by omega⟩
            simp [a4, a5, this]
          · have : ¬ (0 ≤ (x : Int) - (k : Int) ∧ (x : Int) - (k : Int) < n) := by omega
            simp only [a5, this, decide_false, Bool.false_and, Bool.and_false]
        · have : ¬ (0 ≤ (x : Int) - (k : Int) ∧ (x : Int) - (k : Int) < n) := by omega
          simp only [a4, this, decide_false, Bool.false_and]
    · have : ¬ (0 ≤ (x : Int) - dx ∧ (x : Int) - dx < n) := by omega
      simp only [a1, a2, this, decide_true, decide_false, Bool.not_true, cond_true, cond_false, Bool.false_and, tb_0]
  · have : ¬ (0 ≤ (x : Int) - dx ∧ (x : Int) - dx < n) := by omega
    simp only [a1, this, decide_false, Bool.not_false, cond_true, Bool.false_and, tb_0]
/-- T moved by dx, dy, dz: what is in the room -/
def mvd (n : Nat) (T : Nat → Nat → Bool) (dx dy dz : Int) (t z y x : Nat) : Bool := decide (0 ≤ (z : Int) - dz ∧ (z : Int) - dz < n ∧ 0 ≤ (y : Int) - dy ∧ (y : Int) - dy < n) && (decide (0 ≤ (x : Int) - dx ∧ (x : Int) - dx < n) && T (rw3 n t ((z : Int) - dz).toNat ((y : Int) - dy).toNat) ((x : Int) - dx).toNat)
theorem subN {x y : Int} (h1 : -1000000000 ≤ x) (h2 : x ≤ 1000000000) (h3 : -1000000000 ≤ y) (h4 : y ≤ 1000000000) : bop32 100 x y = x - y := sub32 (by omega) (by omega)
section MOVED
variable {gv : Nat → Int} {B n d a b : Nat} {h : AH} {R T : Nat → Nat → Bool}
theorem c_uniteMoved (l : LX B n h) (hd : 10 ≤ d) (hn0 : 0 < n) (hn : n ≤ 52) (sa : Sol n h a R) (sb : Sol n h b T) (hab : b ≠ a) (hB : B ≤ a) {dx dy dz : Int} (bx : -100000 ≤ dx ∧ dx ≤ 100000) (by_ : -100000 ≤ dy ∧ dy ≤ 100000) (bz : -100000 ≤ dz ∧ dz ≤ 100000) :
    Vd (cll PP (ev PP (gsF gv) B) d 361 [(2, rf (B + 51)), (2, rf a), (2, rf b), (0, dx), (0, dy), (0, dz)] h) (fun h' => Fr (fun c => c = a) h h' ∧ Sol n h' a (fun k x => R k x || onK n (mvd n T dx dy dz) k x)) := by
  have hN := rows_le hn
  have ka := sa.1
  refine Vd.into (D := 9) hd (Nat.le_of_ble_eq_true rfl) rfl (fun d hd => Ends.eq (b361_0 l hd) ?_)
  have lx : ∀ {s : AH} {p : Nat}, Uni n h a R (onK n (mvd n T dx dy dz)) s p → LX B n s := fun u => l.fr u.1 (fun c hc => by rw [hc, ka]; exact (by decide : 2 ≤ 3))
  -- the loop over sorts
  refine upto (σ := AH × AV × AV × AV × AV) 24 (fun t s => Uni n h a R (onK n (mvd n T dx dy dz)) s.1 (rw3 n t 0 0)) (fun t s => ev PP (gsF gv) B d 361 3 [(2, rf (B + 51)), (2, rf a), (2, rf b), (0, dx), (0, dy), (0, dz), (0, (t : Int)), s.2.1, s.2.2.1, s.2.2.2.1, s.2.2.2.2] [] s.1) ?_ ?_ 0 (h, (9, 0), (9, 0), (9, 0), (9, 0)) (Nat.zero_le _) (by
    have : rw3 n 0 0 0 = 0 := by unfold rw3; simp
    rw [this]; exact Uni.ini sa)
  · rintro t ⟨s, u7, u8, u9, u10⟩ ht hI iht
    refine Ends.eq (b361_3 (lx hI) hd) ?_
    refine Ends.b3 (fun _ => by omega) (fun _ => ?_)
    rw [max0]
    -- the loop over z
    refine loop (σ := Nat × AH × AV × AV × AV) (fun q => n - q.1) (fun q => dz ≤ (q.1 : Int) ∧ q.1 ≤ 200000 ∧ Uni n h a R (onK n (mvd n T dx dy dz)) q.2.1 (rw3 n t (min q.1 n) 0)) (fun q => ev PP (gsF gv) B d 361 18 [(2, rf (B + 51)), (2, rf a), (2, rf b), (0, dx), (0, dy), (0, dz), (0, (t : Int)), (0, (q.1 : Int)), q.2.2.1, q.2.2.2.1, q.2.2.2.2] [] q.2.1) ?_ (dz.toNat, s, u8, u9, u10) ⟨by omega, by omega, hI.skip (rw3_lez (Nat.zero_le _)) (fun k x h1 h2 hk hx => ?_)⟩
    · rintro ⟨z, s, u8, u9, u10⟩ ⟨hz0, hz1, hU⟩ ihz
      dsimp only at hz0 hz1 hU ihz ⊢
      have out : ((n : Int) ≤ z ∨ (n : Int) ≤ (z : Int) - dz) → Ends (ev PP (gsF gv) B d 361 142 [(2, rf (B + 51)), (2, rf a), (2, rf b), (0, dx), (0, dy), (0, dz), (0, (t : Int)), (0, (z : Int)), u8, u9, u10] [] s) (fun r => ∃ h', r = ((0, (9, 0)), h') ∧ Fr (fun c => c = a) h h' ∧ Sol n h' a (fun k x => R k x || onK n (mvd n T dx dy dz) k x)) := by
        intro hc
        refine Ends.eq (b361_142 (lx hU) hd) ?_
        rw [w_succ (by omega)]
        refine iht (s, (0, (z : Int)), u8, u9, u10) ?_
        rw [rw3_t]
        refine hU.skip (rw3_lez (Nat.min_le_right _ _)) (fun k x h1 h2 hk hx => ?_)
        obtain ⟨e1, e2, e3⟩ := rng_z hn0 h1 h2 (Nat.le_refl _)
        unfold onK mvd
        have : ¬ (0 ≤ ((k / n % n : Nat) : Int) - dz ∧ ((k / n % n : Nat) : Int) - dz < n ∧ 0 ≤ ((k % n : Nat) : Int) - dy ∧ ((k % n : Nat) : Int) - dy < n) := by
          intro q
          have := q.2.1
          rcases hc with hc | hc <;> omega
        simp only [this, decide_false, Bool.false_and]
      refine Ends.eq (b361_18 (lx hU) hd) ?_
      refine Ends.b3 (fun hc => out (Or.inl hc)) (fun hc => ?_)
      rw [subN (by omega) (by omega) (by omega) (by omega)]
      refine Ends.b3 (fun hc2 => out (Or.inr hc2)) (fun hc2 => ?_)
      rw [max0]
      have hzn : z < n := by omega
      rw [Nat.min_eq_left (by omega)] at hU
      -- the loop over y
      refine loop (σ := Nat × AH × AV × AV) (fun q => n - q.1) (fun q => dy ≤ (q.1 : Int) ∧ q.1 ≤ 200000 ∧ Uni n h a R (onK n (mvd n T dx dy dz)) q.2.1 (rw3 n t z (min q.1 n))) (fun q => ev PP (gsF gv) B d 361 47 [(2, rf (B + 51)), (2, rf a), (2, rf b), (0, dx), (0, dy), (0, dz), (0, (t : Int)), (0, (z : Int)), (0, (q.1 : Int)), q.2.2.1, q.2.2.2] [] q.2.1) ?_ (dy.toNat, s, u9, u10) ⟨by omega, by omega, hU.skip (rw3_ley (Nat.zero_le _)) (fun k x h1 h2 hk hx => ?_)⟩
      · rintro ⟨y, s, u9, u10⟩ ⟨hy0, hy1, hV⟩ ihy
        dsimp only at hy0 hy1 hV ihy ⊢
        have outy : ((n : Int) ≤ y ∨ (n : Int) ≤ (y : Int) - dy) → Ends (ev PP (gsF gv) B d 361 136 [(2, rf (B + 51)), (2, rf a), (2, rf b), (0, dx), (0, dy), (0, dz), (0, (t : Int)), (0, (z : Int)), (0, (y : Int)), u9, u10] [] s) (fun r => ∃ h', r = ((0, (9, 0)), h') ∧ Fr (fun c => c = a) h h' ∧ Sol n h' a (fun k x => R k x || onK n (mvd n T dx dy dz) k x)) := by
          intro hc
          refine Ends.eq (b361_136 (lx hV) hd) ?_
          rw [w_succ (by omega)]
          refine ihz (z + 1, s, (0, (y : Int)), u9, u10) (by show n - (z + 1) < n - z; omega) ⟨by show dz ≤ ((z + 1 : Nat) : Int); omega, by show z + 1 ≤ 200000; omega, ?_⟩
          show Uni n h a R (onK n (mvd n T dx dy dz)) s (rw3 n t (min (z + 1) n) 0)
          rw [Nat.min_eq_left (by omega), rw3_z]
          refine hV.skip (rw3_ley (Nat.min_le_right _ _)) (fun k x h1 h2 hk hx => ?_)
          obtain ⟨e1, e2, e3, e4⟩ := rng_y hzn h1 h2 (Nat.le_refl _)
          unfold onK mvd
          have : ¬ (0 ≤ ((k / n % n : Nat) : Int) - dz ∧ ((k / n % n : Nat) : Int) - dz < n ∧ 0 ≤ ((k % n : Nat) : Int) - dy ∧ ((k % n : Nat) : Int) - dy < n) := by
            intro q
            have := q.2.2.2
            rcases hc with hc | hc <;> omega
          simp only [this, decide_false, Bool.false_and]
        refine Ends.eq (b361_47 (lx hV) hd) ?_
        refine Ends.b3 (fun hc3 => outy (Or.inl hc3)) (fun hc3 => ?_)
        rw [subN (x := (y : Int)) (by omega) (by omega) (by omega) (by omega)]
        refine Ends.b3 (fun hc4 => outy (Or.inr hc4)) (fun hc4 => ?_)
        have hyn : y < n := by omega
        rw [Nat.min_eq_left (by omega)] at hV
        have hp := rw3_lt ht hzn hyn
        obtain ⟨zz, ez⟩ : ∃ zz : Nat, (z : Int) - dz = (zz : Int) := ⟨((z : Int) - dz).toNat, by omega⟩
        obtain ⟨yy, ey⟩ : ∃ yy : Nat, (y : Int) - dy = (yy : Int) := ⟨((y : Int) - dy).toNat, by omega⟩
        have hq := rw3_lt ht (show zz < n by omega) (show yy < n by omega)
        have sb' : Sol n s b T := sb.fr hV.1 hab
        have ka' : hk s a = (3, 24 * n * n) := hV.2.1
        rw [subN (x := (z : Int)) (by omega) (by omega) (by omega) (by omega), ez, ey]
        simp only [ad_rf, sb'.1, ka', row_eq hn ht hzn hyn, row_eq hn ht (show zz < n by omega) (show yy < n by omega), tn, an1]
        have hK : ∀ x, onK n (mvd n T dx dy dz) (rw3 n t z y) x = (decide (0 ≤ (x : Int) - dx ∧ (x : Int) - dx < n) && T (rw3 n t zz yy) ((x : Int) - dx).toNat) := by
          intro x
          rw [onK_at hzn hyn]
          unfold mvd
          rw [ez, ey]
          have : (0 ≤ (zz : Int) ∧ (zz : Int) < n ∧ 0 ≤ (yy : Int) ∧ (yy : Int) < n) := ⟨by omega, by omega, by omega, by omega⟩
          rw [show decide (0 ≤ (zz : Int) ∧ (zz : Int) < n ∧ 0 ≤ (yy : Int) ∧ (yy : Int) < n) = true by simp only [this, and_self, decide_true], Bool.true_and]
          rfl
        have go : ∀ (s2 : AH) (v : AV), Uni n h a R (onK n (mvd n T dx dy dz)) s2 (rw3 n t z (y + 1)) → ∀ x9 : Int, Ends (ev PP (gsF gv) B d 361 130 [(2, rf (B + 51)), (2, rf a), (2, rf b), (0, dx), (0, dy), (0, dz), (0, (t : Int)), (0, (z : Int)), (0, (y : Int)), (1, x9), v] [] s2) (fun r => ∃ h', r = ((0, (9, 0)), h') ∧ Fr (fun c => c = a) h h' ∧ Sol n h' a (fun k x => R k x || onK n (mvd n T dx dy dz) k x)) := by
          intro s2 v u2 x9
          refine Ends.eq (b361_130 (lx u2) hd) ?_
          rw [w_succ (by omega)]
          refine ihy (y + 1, s2, (1, x9), v) (by show n - (y + 1) < n - y; omega) ⟨by show dy ≤ ((y + 1 : Nat) : Int); omega, by show y + 1 ≤ 200000; omega, ?_⟩
          show Uni n h a R (onK n (mvd n T dx dy dz)) s2 (rw3 n t z (min (y + 1) n))
          rw [Nat.min_eq_left (by omega)]
          exact u2
        have hsh := fun x (hx : x < 64) => shifted_bits (n := n) (v := hv s b (rw3 n t zz yy)) (T := T (rw3 n t zz yy)) hn (sb'.2 _ hq).2 (dx := dx) (by omega) (by omega) hx
        (repeat' first
          | (exfalso; omega)
          | refine Ends.g (by first | ((repeat' (refine And.intro ?_ ?_)) <;> first | exact rf_pos _ | exact trivial | rfl | assumption | omega | decide)) ?_
          | refine Ends.b0 (fun _ => ?_) (fun _ => ?_)
          | refine Ends.b1 (fun _ => ?_) (fun _ => ?_)
          | refine Ends.b2 (fun _ => ?_) (fun _ => ?_)
          | refine Ends.b3 (fun _ => ?_) (fun _ => ?_)
          | refine Ends.b4 (fun _ => ?_) (fun _ => ?_)
          | refine Ends.b5 (fun _ => ?_) (fun _ => ?_))
        · next hzero =>
          refine go s (9, 0) (hV.skip (rw3_ley (Nat.le_succ y)) (fun k x h1 h2 hk hx => ?_)) _
          have e : k = rw3 n t z y := by rw [rw3_y] at h2; omega
          subst e
          rw [hK]
          have hz9 := (tb_z (sb'.2 _ hq).1).mp (cmp64_z.mp hzero)
          by_cases hin : 0 ≤ (x : Int) - dx ∧ (x : Int) - dx < n
          · have h8 := hz9 ((x : Int) - dx).toNat (by omega)
            rw [(sb'.2 _ hq).2 _ (by omega)] at h8
            have : ((x : Int) - dx).toNat < n := by omega
            have h9 : T (rw3 n t zz yy) ((x : Int) - dx).toNat = false := by simpa [this] using h8
            rw [h9, Bool.and_false]
          · simp only [hin, decide_false, Bool.false_and]
        · refine go _ (9, 0) ?_ _
          rw [rw3_y]
          refine hV.put hp (fun x hx => ?_)
          rw [tb_and, hsh x hx, tb_mask hn, hK]
          cases decide (x < n) <;> simp
      · obtain ⟨e1, e2, e3, e4⟩ := rng_y hzn h1 h2 (Nat.min_le_right _ _)
        unfold onK mvd
        have : ¬ (0 ≤ ((k / n % n : Nat) : Int) - dz ∧ ((k / n % n : Nat) : Int) - dz < n ∧ 0 ≤ ((k % n : Nat) : Int) - dy ∧ ((k % n : Nat) : Int) - dy < n) := by
          intro q
          have := q.2.2.1
          have : k % n < dy.toNat := Nat.lt_of_lt_of_le e4 (Nat.min_le_left _ _)
          omega
        simp only [this, decide_false, Bool.false_and]
    · obtain ⟨e1, e2, e3⟩ := rng_z hn0 h1 h2 (Nat.min_le_right _ _)
      unfold onK mvd
      have : ¬ (0 ≤ ((k / n % n : Nat) : Int) - dz ∧ ((k / n % n : Nat) : Int) - dz < n ∧ 0 ≤ ((k % n : Nat) : Int) - dy ∧ ((k % n : Nat) : Int) - dy < n) := by
        intro q
        have := q.1
        have : k / n % n < dz.toNat := Nat.lt_of_lt_of_le e3 (Nat.min_le_left _ _)
        omega
      simp only [this, decide_false, Bool.false_and]
  · rintro ⟨s, u7, u8, u9, u10⟩ hI
    refine Ends.eq (b361_3 (lx hI) hd) ?_
    refine Ends.b3 (fun _ => Ends.sm ⟨_, rfl, Uni.fin ?_⟩) (fun _ => by omega)
    have : rw3 n 24 0 0 = 24 * n * n := by unfold rw3; simp
    rw [← this]; exact hI
end MOVED
