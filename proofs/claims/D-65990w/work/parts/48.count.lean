/-! L3: Integer.numberOfTrailingZeros, Long.numberOfTrailingZeros, Long.bitCount -/
def ntE (m : Int) : Int := bop32 96 (cond (tst 5 (cond (tst 5 (cond (tst 5 (cond (tst 5 m (65536 : Int)) m (bop32 124 m (16 : Int))) (256 : Int)) (cond (tst 5 m (65536 : Int)) m (bop32 124 m (16 : Int))) (bop32 124 (cond (tst 5 m (65536 : Int)) m (bop32 124 m (16 : Int))) (8 : Int))) (16 : Int)) (cond (tst 5 (cond (tst 5 m (65536 : Int)) m (bop32 124 m (16 : Int))) (256 : Int)) (cond (tst 5 m (65536 : Int)) m (bop32 124 m (16 : Int))) (bop32 124 (cond (tst 5 m (65536 : Int)) m (bop32 124 m (16 : Int))) (8 : Int))) (bop32 124 (cond (tst 5 (cond (tst 5 m (65536 : Int)) m (bop32 124 m (16 : Int))) (256 : Int)) (cond (tst 5 m (65536 : Int)) m (bop32 124 m (16 : Int))) (bop32 124 (cond (tst 5 m (65536 : Int)) m (bop32 124 m (16 : Int))) (8 : Int))) (4 : Int))) (4 : Int)) (cond (tst 5 (cond (tst 5 (cond (tst 5 m (65536 : Int)) m (bop32 124 m (16 : Int))) (256 : Int)) (cond (tst 5 m (65536 : Int)) m (bop32 124 m (16 : Int))) (bop32 124 (cond (tst 5 m (65536 : Int)) m (bop32 124 m (16 : Int))) (8 : Int))) (16 : Int)) (cond (tst 5 (cond (tst 5 m (65536 : Int)) m (bop32 124 m (16 : Int))) (256 : Int)) (cond (tst 5 m (65536 : Int)) (1 : Int) (w32 ((1 : Int) + 16))) (w32 (cond (tst 5 m (65536 : Int)) (1 : Int) (w32 ((1 : Int) + 16)) + 8))) (w32 (cond (tst 5 (cond (tst 5 m (65536 : Int)) m (bop32 124 m (16 : Int))) (256 : Int)) (cond (tst 5 m (65536 : Int)) (1 : Int) (w32 ((1 : Int) + 16))) (w32 (cond (tst 5 m (65536 : Int)) (1 : Int) (w32 ((1 : Int) + 16)) + 8)) + 4))) (w32 (cond (tst 5 (cond (tst 5 (cond (tst 5 m (65536 : Int)) m (bop32 124 m (16 : Int))) (256 : Int)) (cond (tst 5 m (65536 : Int)) m (bop32 124 m (16 : Int))) (bop32 124 (cond (tst 5 m (65536 : Int)) m (bop32 124 m (16 : Int))) (8 : Int))) (16 : Int)) (cond (tst 5 (cond (tst 5 m (65536 : Int)) m (bop32 124 m (16 : Int))) (256 : Int)) (cond (tst 5 m (65536 : Int)) (1 : Int) (w32 ((1 : Int) + 16))) (w32 (cond (tst 5 m (65536 : Int)) (1 : Int) (w32 ((1 : Int) + 16)) + 8))) (w32 (cond (tst 5 (cond (tst 5 m (65536 : Int)) m (bop32 124 m (16 : Int))) (256 : Int)) (cond (tst 5 m (65536 : Int)) (1 : Int) (w32 ((1 : Int) + 16))) (w32 (cond (tst 5 m (65536 : Int)) (1 : Int) (w32 ((1 : Int) + 16)) + 8)) + 4)) + 2))) (bop32 124 (cond (tst 5 (cond (tst 5 (cond (tst 5 (cond (tst 5 m (65536 : Int)) m (bop32 124 m (16 : Int))) (256 : Int)) (cond (tst 5 m (65536 : Int)) m (bop32 124 m (16 : Int))) (bop32 124 (cond (tst 5 m (65536 : Int)) m (bop32 124 m (16 : Int))) (8 : Int))) (16 : Int)) (cond (tst 5 (cond (tst 5 m (65536 : Int)) m (bop32 124 m (16 : Int))) (256 : Int)) (cond (tst 5 m (65536 : Int)) m (bop32 124 m (16 : Int))) (bop32 124 (cond (tst 5 m (65536 : Int)) m (bop32 124 m (16 : Int))) (8 : Int))) (bop32 124 (cond (tst 5 (cond (tst 5 m (65536 : Int)) m (bop32 124 m (16 : Int))) (256 : Int)) (cond (tst 5 m (65536 : Int)) m (bop32 124 m (16 : Int))) (bop32 124 (cond (tst 5 m (65536 : Int)) m (bop32 124 m (16 : Int))) (8 : Int))) (4 : Int))) (4 : Int)) (cond (tst 5 (cond (tst 5 (cond (tst 5 m (65536 : Int)) m (bop32 124 m (16 : Int))) (256 : Int)) (cond (tst 5 m (65536 : Int)) m (bop32 124 m (16 : Int))) (bop32 124 (cond (tst 5 m (65536 : Int)) m (bop32 124 m (16 : Int))) (8 : Int))) (16 : Int)) (cond (tst 5 (cond (tst 5 m (65536 : Int)) m (bop32 124 m (16 : Int))) (256 : Int)) (cond (tst 5 m (65536 : Int)) m (bop32 124 m (16 : Int))) (bop32 124 (cond (tst 5 m (65536 : Int)) m (bop32 124 m (16 : Int))) (8 : Int))) (bop32 124 (cond (tst 5 (cond (tst 5 m (65536 : Int)) m (bop32 124 m (16 : Int))) (256 : Int)) (cond (tst 5 m (65536 : Int)) m (bop32 124 m (16 : Int))) (bop32 124 (cond (tst 5 m (65536 : Int)) m (bop32 124 m (16 : Int))) (8 : Int))) (4 : Int))) (bop32 124 (cond (tst 5 (cond (tst 5 (cond (tst 5 m (65536 : Int)) m (bop32 124 m (16 : Int))) (256 : Int)) (cond (tst 5 m (65536 : Int)) m (bop32 124 m (16 : Int))) (bop32 124 (cond (tst 5 m (65536 : Int)) m (bop32 124 m (16 : Int))) (8 : Int))) (16 : Int)) (cond (tst 5 (cond (tst 5 m (65536 : Int)) m (bop32 124 m (16 : Int))) (256 : Int)) (cond (tst 5 m (65536 : Int)) m (bop32 124 m (16 : Int))) (bop32 124 (cond (tst 5 m (65536 : Int)) m (bop32 124 m (16 : Int))) (8 : Int))) (bop32 124 (cond (tst 5 (cond (tst 5 m (65536 : Int)) m (bop32 124 m (16 : Int))) (256 : Int)) (cond (tst 5 m (65536 : Int)) m (bop32 124 m (16 : Int))) (bop32 124 (cond (tst 5 m (65536 : Int)) m (bop32 124 m (16 : Int))) (8 : Int))) (4 : Int))) (2 : Int))) (1 : Int))
theorem ntE_is : ∀ k : Fin 32, ntE ((2 ^ (k : Nat) - 1 : Nat) : Int) = if (k : Nat) = 0 then ntE 0 else ((k : Nat) : Int) := by decide +kernel
theorem sar32_lo (x : Int) : uI (uop 3 x) = uN x % 4294967296 := by
  show uI (w32 x) = _
  rw [uI_w]; unfold uI uN; omega
section NTZ
variable {gv : Nat → Int} {B n d : Nat} {h : AH}
theorem c_ntz32 (lx : LX B n h) (hd : 10 ≤ d) {x : Int} (hx : cn 0 x) {k : Nat} (h1 : (uI x).testBit k = true) (h0 : ∀ j, j < k → (uI x).testBit j = false) :
    Vt 0 (cll PP (ev PP (gsF gv) B) d 879 [(0, x)] h) (fun r h' => h' = h ∧ r = (k : Int)) := by
  have hlt : uI x < 4294967296 := by unfold uI; omega
  have hk : k < 32 := by
    apply Classical.byContradiction
    intro q
    have := Nat.testBit_lt_two_pow (x := uI x) (i := k) (Nat.lt_of_lt_of_le hlt (Nat.pow_le_pow_right (n := 2) (i := 32) (by decide) (by omega)))
    rw [this] at h1; cases h1
  have hpos : uI x ≠ 0 := fun e => by rw [e] at h1; simp at h1
  have e1 : uI (bop32 100 x 1) = uI x - 1 := by
    show uI (w32 (x - 1)) = _
    rw [uI_w]; unfold uI at hpos ⊢; omega
  have hm : bop32 126 (bop32 130 x (-1)) (bop32 100 x 1) = ((2 ^ k - 1 : Nat) : Int) := by
    refine uI_ofN (bop32_cn _ _ _) ?_ ?_
    · rw [uI_bits, uI_not, e1, ntz_mask hlt h1 h0]
    · have : 2 ^ k ≤ 2 ^ 31 := Nat.pow_le_pow_right (by decide) (by omega)
      omega
  refine Vt.into (D := 9) hd (Nat.le_of_ble_eq_true rfl) rfl (fun d hd => ?_)
  refine Ends.eq (b879_0 lx hd) ?_
  rw [hm]
  have hv := ntE_is ⟨k, hk⟩
  by_cases hk0 : k = 0
  · subst hk0
    refine Ends.b4 (fun z => absurd z (by decide)) (fun _ => ?_)
    exact Ends.sm ⟨_, _, rfl, rfl, rfl⟩
  · have hp : 2 ^ 1 ≤ 2 ^ k := Nat.pow_le_pow_right (by decide) (by omega)
    refine Ends.b4 (fun _ => ?_) (fun z => absurd z (by omega))
    rw [if_neg hk0] at hv
    exact Ends.sm ⟨_, _, rfl, rfl, hv⟩
theorem c_ntz (lx : LX B n h) (hd : 11 ≤ d) {v : Int} {k : Nat} (l : Low v k) :
    Vt 0 (cll PP (ev PP (gsF gv) B) d 884 [(1, v)] h) (fun r h' => h' = h ∧ r = (k : Int)) := by
  have h1 : (uN v).testBit k = true := by rw [← tb_uN]; exact l.2.1
  have h0 : ∀ j, j < k → (uN v).testBit j = false := fun j hj => by rw [← tb_uN]; exact l.2.2 j hj
  refine Vt.into (D := 10) hd (Nat.le_of_ble_eq_true rfl) rfl (fun d hd => ?_)
  refine Ends.eq (b884_0 (by decide) lx (by omega)) ?_
  have bl : ∀ j, j < 32 → (uI (uop 3 v)).testBit j = (uN v).testBit j := fun j hj => by
    rw [sar32_lo, show (4294967296 : Nat) = 2 ^ 32 from rfl, Nat.testBit_mod_two_pow]; simp [hj]
  have bh : ∀ j, j < 32 → (uI (uop 3 (sop64 125 v 32))).testBit j = (uN v).testBit (32 + j) := fun j hj => by
    rw [sar32_lo, show uN (sop64 125 v 32) = uN v / 2 ^ 32 from uN_shr v (k := 32) (by decide), show (4294967296 : Nat) = 2 ^ 32 from rfl, Nat.testBit_mod_two_pow, Nat.testBit_div_two_pow]; simp [hj, Nat.add_comm]
  have cz : cn 0 (uop 3 v) := w32_cn _
  have z0 : uop 3 v = 0 ↔ uI (uop 3 v) = 0 := by have := cz.1; have := cz.2; unfold uI; omega
  by_cases hk : k < 32
  · refine Ends.b1 (fun _ => ?_) (fun z => ?_)
    · obtain ⟨r, h', e, rfl, rfl⟩ := c_ntz32 (gv := gv) (B := B) (h := h) (d := d) lx (by omega) cz (k := k) (by rw [bl k hk]; exact h1) (fun j hj => by rw [bl j (by omega)]; exact h0 j hj)
      rw [aft_ret e (by show ¬ (0 : Nat) = 9; decide)]
      exact Ends.eq (b884_25 lx (by omega)) (Ends.sm ⟨_, _, rfl, rfl, rfl⟩)
    · rw [z0] at z
      have := bl k hk
      rw [z, h1] at this
      simp at this
  · have hk6 := l.1
    refine Ends.b1 (fun z => absurd ?_ z) (fun z => ?_)
    · rw [z0]
      refine Nat.eq_of_testBit_eq (fun j => ?_)
      rw [Nat.zero_testBit]
      by_cases hj : j < 32
      · rw [bl j hj]; exact h0 j (by omega)
      · rw [sar32_lo, show (4294967296 : Nat) = 2 ^ 32 from rfl, Nat.testBit_mod_two_pow]; simp [hj]
    · obtain ⟨r, h', e, rfl, rfl⟩ := c_ntz32 (gv := gv) (B := B) (h := h) (d := d) (x := uop 3 (sop64 125 v 32)) lx (by omega) (w32_cn _) (k := k - 32) (by rw [bh _ (by omega), show 32 + (k - 32) = k by omega]; exact h1) (fun j hj => by rw [bh j (by omega)]; exact h0 _ (by omega))
      rw [aft_ret e (by show ¬ (0 : Nat) = 9; decide)]
      refine Ends.eq (b884_17 lx (by omega)) (Ends.eq (b884_25 lx (by omega)) (Ends.sm ⟨_, _, rfl, rfl, ?_⟩))
      rw [add32 (by omega) (by omega)]; omega
end NTZ
/- how many bits -/
section CNT
theorem and_split {a m A M : Nat} (ha : a < 256) (hm : m < 256) : (a + 256 * A) &&& (m + 256 * M) = (a &&& m) + 256 * (A &&& M) := by
  have h1 : a &&& m < 256 := Nat.lt_of_le_of_lt Nat.and_le_left ha
  refine Nat.eq_of_testBit_eq (fun j => ?_)
  rw [Nat.testBit_and, show a + 256 * A = 2 ^ 8 * A + a by omega, show m + 256 * M = 2 ^ 8 * M + m by omega, show (a &&& m) + 256 * (A &&& M) = 2 ^ 8 * (A &&& M) + (a &&& m) by omega, Nat.testBit_two_pow_mul_add _ (by omega), Nat.testBit_two_pow_mul_add _ (by omega), Nat.testBit_two_pow_mul_add _ (by omega)]
  split
  · rw [Nat.testBit_and]
  · rw [Nat.testBit_and]
/-- a number by its eight bytes -/
def by8 (c0 c1 c2 c3 c4 c5 c6 c7 : Nat) : Nat := c0 + 256 * (c1 + 256 * (c2 + 256 * (c3 + 256 * (c4 + 256 * (c5 + 256 * (c6 + 256 * c7))))))
theorem by8_and {c0 c1 c2 c3 c4 c5 c6 c7 m : Nat} (h0 : c0 < 256) (h1 : c1 < 256) (h2 : c2 < 256) (h3 : c3 < 256) (h4 : c4 < 256) (h5 : c5 < 256) (h6 : c6 < 256) (hm : m < 256) : by8 c0 c1 c2 c3 c4 c5 c6 c7 &&& by8 m m m m m m m m = by8 (c0 &&& m) (c1 &&& m) (c2 &&& m) (c3 &&& m) (c4 &&& m) (c5 &&& m) (c6 &&& m) (c7 &&& m) := by
  unfold by8
  rw [and_split h0 hm, and_split h1 hm, and_split h2 hm, and_split h3 hm, and_split h4 hm, and_split h5 hm, and_split h6 hm]
/-- one byte through the three steps; its bits -/
def pcU (c : Nat) : Nat := c - (c / 2 &&& 85)
def pcV (u : Nat) : Nat := (u &&& 51) + (u / 4 &&& 51)
def pcW (v : Nat) : Nat := (v + v / 16) &&& 15
def pc8 (c : Nat) : Nat := (c.testBit 0).toNat + (c.testBit 1).toNat + (c.testBit 2).toNat + (c.testBit 3).toNat + (c.testBit 4).toNat + (c.testBit 5).toNat + (c.testBit 6).toNat + (c.testBit 7).toNat
theorem pc_all : ∀ c : Fin 256, (c : Nat) / 2 &&& 85 ≤ c ∧ pcU c < 256 ∧ pcV (pcU c) ≤ 68 ∧ pcV (pcU c) % 16 ≤ 4 ∧ pcW (pcV (pcU c)) = pc8 c ∧ pc8 c ≤ 8 := by decide +kernel
theorem pc_allN (c : Nat) (h : c < 256) : c / 2 &&& 85 ≤ c ∧ pcU c < 256 ∧ pcV (pcU c) ≤ 68 ∧ pcV (pcU c) % 16 ≤ 4 ∧ pcW (pcV (pcU c)) = pc8 c ∧ pc8 c ≤ 8 := pc_all ⟨c, h⟩
theorem and85 : ∀ c : Fin 256, ∀ k : Fin 2, ((c : Nat) / 2 + 128 * k) &&& 85 = (c : Nat) / 2 &&& 85 := by decide +kernel
theorem and51 : ∀ c : Fin 256, ∀ k : Fin 4, ((c : Nat) / 4 + 64 * k) &&& 51 = (c : Nat) / 4 &&& 51 := by decide +kernel
theorem and15 : ∀ v : Fin 69, ∀ k : Fin 16, ((v : Nat) + (v / 16 + 16 * k)) &&& 15 = ((v : Nat) + v / 16) &&& 15 := by decide +kernel
theorem dv_ (L H m : Nat) (h0 : 0 < m) (h1 : L < m) : (L + m * H) / m = H := by
  rw [Nat.add_mul_div_left _ _ h0, Nat.div_eq_of_lt h1, Nat.zero_add]
theorem by8_lt {c0 c1 c2 c3 c4 c5 c6 c7 m : Nat} (h0 : c0 ≤ m) (h1 : c1 ≤ m) (h2 : c2 ≤ m) (h3 : c3 ≤ m) (h4 : c4 ≤ m) (h5 : c5 ≤ m) (h6 : c6 ≤ m) (h7 : c7 ≤ m) : by8 c0 c1 c2 c3 c4 c5 c6 c7 ≤ m * 72340172838076673 := by
  unfold by8; omega
theorem by8_d1 {c0 c1 c2 c3 c4 c5 c6 c7 : Nat} (h0 : c0 < 256) : by8 c0 c1 c2 c3 c4 c5 c6 c7 / 256 = by8 c1 c2 c3 c4 c5 c6 c7 0 := by
  rw [show by8 c0 c1 c2 c3 c4 c5 c6 c7 = c0 + 256 * by8 c1 c2 c3 c4 c5 c6 c7 0 from rfl, dv_ _ _ _ (by decide) h0]
theorem by8_add {c0 c1 c2 c3 c4 c5 c6 c7 d0 d1 d2 d3 d4 d5 d6 d7 : Nat} : by8 c0 c1 c2 c3 c4 c5 c6 c7 + by8 d0 d1 d2 d3 d4 d5 d6 d7 = by8 (c0 + d0) (c1 + d1) (c2 + d2) (c3 + d3) (c4 + d4) (c5 + d5) (c6 + d6) (c7 + d7) := by
  unfold by8; omega
theorem pc_fin {w0 w1 w2 w3 w4 w5 w6 w7 : Nat} (f0 : w0 ≤ 8) (f1 : w1 ≤ 8) (f2 : w2 ≤ 8) (f3 : w3 ≤ 8) (f4 : w4 ≤ 8) (f5 : w5 ≤ 8) (f6 : w6 ≤ 8) (f7 : w7 ≤ 8) {W X Y Z : Nat} (eW : W = by8 w0 w1 w2 w3 w4 w5 w6 w7) (eX : X = (W + W / 256) % 18446744073709551616) (eY : Y = (X + X / 65536) % 18446744073709551616) (eZ : Z = (Y + Y / 4294967296) % 18446744073709551616) : Z % 128 = w0 + w1 + w2 + w3 + w4 + w5 + w6 + w7 := by
  have lt : ∀ {c0 c1 c2 c3 c4 c5 c6 c7 : Nat}, c0 ≤ 128 → c1 ≤ 128 → c2 ≤ 128 → c3 ≤ 128 → c4 ≤ 128 → c5 ≤ 128 → c6 ≤ 128 → c7 ≤ 128 → by8 c0 c1 c2 c3 c4 c5 c6 c7 % 18446744073709551616 = by8 c0 c1 c2 c3 c4 c5 c6 c7 := fun h0 h1 h2 h3 h4 h5 h6 h7 => Nat.mod_eq_of_lt (Nat.lt_of_le_of_lt (by8_lt h0 h1 h2 h3 h4 h5 h6 h7) (by decide))
  rw [eW, by8_d1 (by omega), by8_add, lt (by omega) (by omega) (by omega) (by omega) (by omega) (by omega) (by omega) (by omega)] at eX
  rw [eX, show (65536 : Nat) = 256 * 256 from rfl, ← Nat.div_div_eq_div_mul, by8_d1 (by omega), by8_d1 (by omega), by8_add, lt (by omega) (by omega) (by omega) (by omega) (by omega) (by omega) (by omega) (by omega)] at eY
  rw [eY, show (4294967296 : Nat) = 256 * 256 * 256 * 256 from rfl, ← Nat.div_div_eq_div_mul, ← Nat.div_div_eq_div_mul, ← Nat.div_div_eq_div_mul, by8_d1 (by omega), by8_d1 (by omega), by8_d1 (by omega), by8_d1 (by omega), by8_add, lt (by omega) (by omega) (by omega) (by omega) (by omega) (by omega) (by omega) (by omega)] at eZ
  rw [eZ]
  have e : ∀ c0 c1 c2 c3 c4 c5 c6 c7 : Nat, by8 c0 c1 c2 c3 c4 c5 c6 c7 % 128 = c0 % 128 := fun c0 c1 c2 c3 c4 c5 c6 c7 => by
    rw [show by8 c0 c1 c2 c3 c4 c5 c6 c7 = c0 + 128 * (2 * by8 c1 c2 c3 c4 c5 c6 c7 0) by unfold by8; omega, Nat.add_mul_mod_self_left]
  rw [e, Nat.mod_eq_of_lt (by omega)]
  omega
theorem pc_sw {c0 c1 c2 c3 c4 c5 c6 c7 : Nat} (h0 : c0 < 256) (h1 : c1 < 256) (h2 : c2 < 256) (h3 : c3 < 256) (h4 : c4 < 256) (h5 : c5 < 256) (h6 : c6 < 256) (h7 : c7 < 256) (N U V W X Y Z : Nat) (eN : N = by8 c0 c1 c2 c3 c4 c5 c6 c7) (eU : U = (N + 18446744073709551616 - (N / 2 &&& 6148914691236517205)) % 18446744073709551616) (eV : V = ((U &&& 3689348814741910323) + (U / 4 &&& 3689348814741910323)) % 18446744073709551616) (eW : W = (V + V / 16) % 18446744073709551616 &&& 1085102592571150095) (eX : X = (W + W / 256) % 18446744073709551616) (eY : Y = (X + X / 65536) % 18446744073709551616) (eZ : Z = (Y + Y / 4294967296) % 18446744073709551616) : Z % 128 = pc8 c0 + pc8 c1 + pc8 c2 + pc8 c3 + pc8 c4 + pc8 c5 + pc8 c6 + pc8 c7 := by
  obtain ⟨a0, b0, d0, x0, e0, f0⟩ := pc_allN c0 h0
  obtain ⟨a1, b1, d1, x1, e1, f1⟩ := pc_allN c1 h1
  obtain ⟨a2, b2, d2, x2, e2, f2⟩ := pc_allN c2 h2
  obtain ⟨a3, b3, d3, x3, e3, f3⟩ := pc_allN c3 h3
  obtain ⟨a4, b4, d4, x4, e4, f4⟩ := pc_allN c4 h4
  obtain ⟨a5, b5, d5, x5, e5, f5⟩ := pc_allN c5 h5
  obtain ⟨a6, b6, d6, x6, e6, f6⟩ := pc_allN c6 h6
  obtain ⟨a7, b7, d7, x7, e7, f7⟩ := pc_allN c7 h7
  have sU : N / 2 &&& 6148914691236517205 = by8 (c0 / 2 &&& 85) (c1 / 2 &&& 85) (c2 / 2 &&& 85) (c3 / 2 &&& 85) (c4 / 2 &&& 85) (c5 / 2 &&& 85) (c6 / 2 &&& 85) (c7 / 2 &&& 85) := by
    have q : N / 2 = by8 (c0 / 2 + 128 * (c1 % 2)) (c1 / 2 + 128 * (c2 % 2)) (c2 / 2 + 128 * (c3 % 2)) (c3 / 2 + 128 * (c4 % 2)) (c4 / 2 + 128 * (c5 % 2)) (c5 / 2 + 128 * (c6 % 2)) (c6 / 2 + 128 * (c7 % 2)) (c7 / 2) := by
      rw [eN]; unfold by8; omega
    rw [q, show (6148914691236517205 : Nat) = by8 85 85 85 85 85 85 85 85 from rfl, by8_and (by omega) (by omega) (by omega) (by omega) (by omega) (by omega) (by omega) (by decide)]
    have g := fun c (h : c < 256) k (hk : k < 2) => and85 ⟨c, h⟩ ⟨k, hk⟩
    dsimp only at g
    rw [g c0 h0 (c1 % 2) (by omega), g c1 h1 (c2 % 2) (by omega), g c2 h2 (c3 % 2) (by omega), g c3 h3 (c4 % 2) (by omega), g c4 h4 (c5 % 2) (by omega), g c5 h5 (c6 % 2) (by omega), g c6 h6 (c7 % 2) (by omega)]
  have tU : U = by8 (pcU c0) (pcU c1) (pcU c2) (pcU c3) (pcU c4) (pcU c5) (pcU c6) (pcU c7) := by
    rw [eU, sU, eN]; unfold by8 pcU; omega
  have sV : ∀ u0 u1 u2 u3 u4 u5 u6 u7 : Nat, u0 < 256 → u1 < 256 → u2 < 256 → u3 < 256 → u4 < 256 → u5 < 256 → u6 < 256 → u7 < 256 → by8 u0 u1 u2 u3 u4 u5 u6 u7 / 4 &&& 3689348814741910323 = by8 (u0 / 4 &&& 51) (u1 / 4 &&& 51) (u2 / 4 &&& 51) (u3 / 4 &&& 51) (u4 / 4 &&& 51) (u5 / 4 &&& 51) (u6 / 4 &&& 51) (u7 / 4 &&& 51) := by
    intro u0 u1 u2 u3 u4 u5 u6 u7 h0 h1 h2 h3 h4 h5 h6 h7
    have q : by8 u0 u1 u2 u3 u4 u5 u6 u7 / 4 = by8 (u0 / 4 + 64 * (u1 % 4)) (u1 / 4 + 64 * (u2 % 4)) (u2 / 4 + 64 * (u3 % 4)) (u3 / 4 + 64 * (u4 % 4)) (u4 / 4 + 64 * (u5 % 4)) (u5 / 4 + 64 * (u6 % 4)) (u6 / 4 + 64 * (u7 % 4)) (u7 / 4) := by
      unfold by8; omega
    rw [q, show (3689348814741910323 : Nat) = by8 51 51 51 51 51 51 51 51 from rfl, by8_and (by omega) (by omega) (by omega) (by omega) (by omega) (by omega) (by omega) (by decide)]
    have g := fun c (h : c < 256) k (hk : k < 4) => and51 ⟨c, h⟩ ⟨k, hk⟩
    dsimp only at g
    rw [g u0 h0 (u1 % 4) (by omega), g u1 h1 (u2 % 4) (by omega), g u2 h2 (u3 % 4) (by omega), g u3 h3 (u4 % 4) (by omega), g u4 h4 (u5 % 4) (by omega), g u5 h5 (u6 % 4) (by omega), g u6 h6 (u7 % 4) (by omega)]
  have tV : V = by8 (pcV (pcU c0)) (pcV (pcU c1)) (pcV (pcU c2)) (pcV (pcU c3)) (pcV (pcU c4)) (pcV (pcU c5)) (pcV (pcU c6)) (pcV (pcU c7)) := by
    rw [eV, tU, sV _ _ _ _ _ _ _ _ b0 b1 b2 b3 b4 b5 b6 b7, show (3689348814741910323 : Nat) = by8 51 51 51 51 51 51 51 51 from rfl, by8_and b0 b1 b2 b3 b4 b5 b6 (by decide)]
    unfold pcV at d0 d1 d2 d3 d4 d5 d6 d7 ⊢
    unfold by8
    omega
  have tW : W = by8 (pc8 c0) (pc8 c1) (pc8 c2) (pc8 c3) (pc8 c4) (pc8 c5) (pc8 c6) (pc8 c7) := by
    rw [eW, tV, ← e0, ← e1, ← e2, ← e3, ← e4, ← e5, ← e6, ← e7]
    generalize pcV (pcU c0) = v0 at *
    generalize pcV (pcU c1) = v1 at *
    generalize pcV (pcU c2) = v2 at *
    generalize pcV (pcU c3) = v3 at *
    generalize pcV (pcU c4) = v4 at *
    generalize pcV (pcU c5) = v5 at *
    generalize pcV (pcU c6) = v6 at *
    generalize pcV (pcU c7) = v7 at *
    have q : (by8 v0 v1 v2 v3 v4 v5 v6 v7 + by8 v0 v1 v2 v3 v4 v5 v6 v7 / 16) % 18446744073709551616 = by8 (v0 + (v0 / 16 + 16 * (v1 % 16))) (v1 + (v1 / 16 + 16 * (v2 % 16))) (v2 + (v2 / 16 + 16 * (v3 % 16))) (v3 + (v3 / 16 + 16 * (v4 % 16))) (v4 + (v4 / 16 + 16 * (v5 % 16))) (v5 + (v5 / 16 + 16 * (v6 % 16))) (v6 + (v6 / 16 + 16 * (v7 % 16))) (v7 + v7 / 16) := by
      unfold by8; omega
    rw [q, show (1085102592571150095 : Nat) = by8 15 15 15 15 15 15 15 15 from rfl, by8_and (by omega) (by omega) (by omega) (by omega) (by omega) (by omega) (by omega) (by decide)]
    have g := fun c (h : c ≤ 68) k (hk : k < 16) => and15 ⟨c, by omega⟩ ⟨k, hk⟩
    dsimp only at g
    unfold pcW
    rw [g v0 d0 (v1 % 16) (by omega), g v1 d1 (v2 % 16) (by omega), g v2 d2 (v3 % 16) (by omega), g v3 d3 (v4 % 16) (by omega), g v4 d4 (v5 % 16) (by omega), g v5 d5 (v6 % 16) (by omega), g v6 d6 (v7 % 16) (by omega)]
  exact pc_fin f0 f1 f2 f3 f4 f5 f6 f7 tW eX eY eZ
end CNT
section CNT2
theorem cnt8 (f : Nat → Bool) (i : Nat) : cntN f (i + 8) = cntN f i + ((f i).toNat + (f (i + 1)).toNat + (f (i + 2)).toNat + (f (i + 3)).toNat + (f (i + 4)).toNat + (f (i + 5)).toNat + (f (i + 6)).toNat + (f (i + 7)).toNat) := by
  have e : ∀ b : Bool, (if b = true then 1 else 0) = b.toNat := fun b => by cases b <;> rfl
  show cntN f i + _ + _ + _ + _ + _ + _ + _ + _ = _
  simp only [e]
  omega
theorem pc8_at (N i : Nat) : pc8 (N / 2 ^ i % 256) = (N.testBit i).toNat + (N.testBit (i + 1)).toNat + (N.testBit (i + 2)).toNat + (N.testBit (i + 3)).toNat + (N.testBit (i + 4)).toNat + (N.testBit (i + 5)).toNat + (N.testBit (i + 6)).toNat + (N.testBit (i + 7)).toNat := by
  have e : ∀ j, j < 8 → (N / 2 ^ i % 256).testBit j = N.testBit (i + j) := fun j hj => by
    rw [show (256 : Nat) = 2 ^ 8 from rfl, Nat.testBit_mod_two_pow, Nat.testBit_div_two_pow]; simp [hj, Nat.add_comm]
  unfold pc8
  rw [e 0 (by decide), e 1 (by decide), e 2 (by decide), e 3 (by decide), e 4 (by decide), e 5 (by decide), e 6 (by decide), e 7 (by decide)]
  rfl
theorem bitCount_is (v : Int) : v880 v = ((cntN (tb v) 64 : Nat) : Int) := by
  have hN := uN_lt v
  generalize eU : bop64 101 v (bop64 127 (sop64 125 v 1) 6148914691236517205) = U
  generalize eV : bop64 97 (bop64 127 U 3689348814741910323) (bop64 127 (sop64 125 U 2) 3689348814741910323) = V
  generalize eW : bop64 127 (bop64 97 V (sop64 125 V 4)) 1085102592571150095 = W
  generalize eX : bop64 97 W (sop64 125 W 8) = X
  generalize eY : bop64 97 X (sop64 125 X 16) = Y
  generalize eZ : bop64 97 Y (sop64 125 Y 32) = Z
  have e0 : v880 v = bop32 126 (uop 3 Z) 127 := by
    rw [← eZ, ← eY, ← eX, ← eW, ← eV, ← eU]; rfl
  have s : ∀ (x : Int) (k : Nat), k < 64 → uN (sop64 125 x (k : Int)) = uN x / 2 ^ k := fun x k hk => uN_shr x hk
  have key := pc_sw (c0 := uN v / 2 ^ 0 % 256) (c1 := uN v / 2 ^ 8 % 256) (c2 := uN v / 2 ^ 16 % 256) (c3 := uN v / 2 ^ 24 % 256) (c4 := uN v / 2 ^ 32 % 256) (c5 := uN v / 2 ^ 40 % 256) (c6 := uN v / 2 ^ 48 % 256) (c7 := uN v / 2 ^ 56 % 256) (by omega) (by omega) (by omega) (by omega) (by omega) (by omega) (by omega) (by omega) (uN v) (uN U) (uN V) (uN W) (uN X) (uN Y) (uN Z) (by unfold by8; omega)
    (by rw [← eU, uN_sub, uN_and, show uN (sop64 125 v 1) = uN v / 2 ^ 1 from s v 1 (by decide)]; rfl)
    (by rw [← eV, uN_add, uN_and, uN_and, show uN (sop64 125 U 2) = uN U / 2 ^ 2 from s U 2 (by decide)]; rfl)
    (by rw [← eW, uN_and, uN_add, show uN (sop64 125 V 4) = uN V / 2 ^ 4 from s V 4 (by decide)]; rfl)
    (by rw [← eX, uN_add, show uN (sop64 125 W 8) = uN W / 2 ^ 8 from s W 8 (by decide)])
    (by rw [← eY, uN_add, show uN (sop64 125 X 16) = uN X / 2 ^ 16 from s X 16 (by decide)])
    (by rw [← eZ, uN_add, show uN (sop64 125 Y 32) = uN Y / 2 ^ 32 from s Y 32 (by decide)])
  rw [pc8_at, pc8_at, pc8_at, pc8_at, pc8_at, pc8_at, pc8_at, pc8_at] at key
  have e1 : uI (bop32 126 (uop 3 Z) 127) = uN Z % 128 := by
    rw [uI_bits, sar32_lo, show uI 127 = 2 ^ 7 - 1 from rfl, Nat.and_two_pow_sub_one_eq_mod]
    omega
  have e2 : (fun i => tb v i) = (fun i => (uN v).testBit i) := funext (fun i => tb_uN v i)
  rw [e0, uI_ofN (bop32_cn _ _ _) e1 (by omega), key]
  congr 1
  show _ = cntN (fun i => tb v i) 64
  rw [e2, show (64 : Nat) = 0 + 8 + 8 + 8 + 8 + 8 + 8 + 8 + 8 from rfl, cnt8, cnt8, cnt8, cnt8, cnt8, cnt8, cnt8, cnt8]
  show _ = 0 + _ + _ + _ + _ + _ + _ + _ + _
  omega
theorem cntN_congr {f g : Nat → Bool} : ∀ N, (∀ i, i < N → f i = g i) → cntN f N = cntN g N
  | 0, _ => rfl
  | N + 1, h => by rw [cntN_s, cntN_s, cntN_congr N (fun i hi => h i (by omega)), h N (by omega)]
theorem cntN_cut (r : Nat → Bool) (n : Nat) : ∀ k, cntN (fun x => decide (x < n) && r x) (n + k) = cntN r n
  | 0 => cntN_congr n (fun i hi => by simp [hi])
  | k + 1 => by
    rw [← Nat.add_assoc, cntN_s, cntN_cut r n k]
    have : ¬ n + k < n := by omega
    simp [this]
theorem rowCnt {n : Nat} {v : Int} {r : Nat → Bool} (hn : n ≤ 52) (hv : ∀ x, x < 64 → tb v x = (decide (x < n) && r x)) : v880 v = ((cntN r n : Nat) : Int) := by
  rw [bitCount_is, cntN_congr 64 hv]
  have := cntN_cut r n (64 - n)
  rw [show n + (64 - n) = 64 by omega] at this
  rw [this]
/-- how many grains rows below K have -/
def cntR (n : Nat) (R : Nat → Nat → Bool) : Nat → Nat
  | 0 => 0
  | K + 1 => cntR n R K + cntN (R K) n
theorem cntR_le (n : Nat) (R : Nat → Nat → Bool) : ∀ K, cntR n R K ≤ K * n
  | 0 => Nat.zero_le _
  | K + 1 => by
    have h1 := cntR_le n R K
    have h2 := cntN_le (R K) n
    rw [Nat.succ_mul]; unfold cntR; omega
variable {gv : Nat → Int} {B n d a : Nat} {h : AH} {R : Nat → Nat → Bool}
theorem rows_n (hn : n ≤ 52) {K : Nat} (hK : K ≤ 24 * n * n) : K * n ≤ 3374592 := by
  have h1 := rows_le hn
  exact Nat.mul_le_mul (show K ≤ 64896 by omega) hn
theorem c_count (l : LX B n h) (hd : 10 ≤ d) (hn : n ≤ 52) (sa : Sol n h a R) :
    Vt 0 (cll PP (ev PP (gsF gv) B) d 339 [(2, rf (B + 51)), (2, rf a)] h) (fun v h' => h' = h ∧ v = ((cntR n R (24 * n * n) : Nat) : Int)) := by
  have hN := rows_le hn
  have ka := sa.1
  refine Vt.into (D := 9) hd (Nat.le_of_ble_eq_true rfl) rfl (fun d hd => Ends.eq (b339_0 l hd) ?_)
  refine lp (24 * n * n) (fun i L q => L = [(2, rf (B + 51)), (2, (rf a)), (0, (((cntR n R i : Nat) : Int))), (0, ((i : Int)))] ∧ LX B n q ∧ i ≤ 24 * n * n ∧ q = h) ?_ ?_ (0) ⟨rfl, (by (repeat' first | assumption | refine LX.setF _ _ ?_ (by decide +kernel) | refine LX.setS ?_ rfl | refine LX.setA ?_ (by assumption))), by omega, ?_⟩
  · rintro i _ q hi ⟨rfl, lq, hiN, rfl⟩ ihi
    refine Ends.eq (b339_4 (n := n) (by (repeat' first | assumption | refine LX.setF _ _ ?_ (by decide +kernel) | refine LX.setS ?_ rfl | refine LX.setA ?_ (by first | assumption | omega))) (by first | assumption | omega)) ?_
    simp only [ad_rf, ka, tn]
    (repeat' first
      | (exfalso; omega)
      | refine Ends.g (by first | ((repeat' (refine And.intro ?_ ?_)) <;> first | exact rf_pos _ | exact trivial | rfl | assumption | omega | decide)) ?_
      | refine Ends.b0 (fun _ => ?_) (fun _ => ?_)
      | refine Ends.b1 (fun _ => ?_) (fun _ => ?_)
      | refine Ends.b2 (fun _ => ?_) (fun _ => ?_)
      | refine Ends.b3 (fun _ => ?_) (fun _ => ?_)
      | refine Ends.b4 (fun _ => ?_) (fun _ => ?_)
      | refine Ends.b5 (fun _ => ?_) (fun _ => ?_))
    have h1 := cntR_le n R i
    have h2 := rows_n hn (show i ≤ 24 * n * n by omega)
    have h3 := cntN_le (R i) n
    rw [w_succ (by omega), rowCnt hn (sa.2 i hi).2, addNN (by omega)]
    refine ihi _ _ ⟨rfl, (by (repeat' first | assumption | refine LX.setF _ _ ?_ (by decide +kernel) | refine LX.setS ?_ rfl | refine LX.setA ?_ (by assumption))), by omega, ?_⟩
    rfl
  · rintro i _ q hi ⟨rfl, lq, hiN, rfl⟩
    obtain rfl : i = 24 * n * n := by omega
    refine Ends.eq (b339_4 (n := n) (by (repeat' first | assumption | refine LX.setF _ _ ?_ (by decide +kernel) | refine LX.setS ?_ rfl | refine LX.setA ?_ (by first | assumption | omega))) (by first | assumption | omega)) ?_
    simp only [ad_rf, ka]
    (repeat' first
      | (exfalso; omega)
      | refine Ends.g (by first | ((repeat' (refine And.intro ?_ ?_)) <;> first | exact rf_pos _ | exact trivial | rfl | assumption | omega | decide)) ?_
      | refine Ends.b0 (fun _ => ?_) (fun _ => ?_)
      | refine Ends.b1 (fun _ => ?_) (fun _ => ?_)
      | refine Ends.b2 (fun _ => ?_) (fun _ => ?_)
      | refine Ends.b3 (fun _ => ?_) (fun _ => ?_)
      | refine Ends.b4 (fun _ => ?_) (fun _ => ?_)
      | refine Ends.b5 (fun _ => ?_) (fun _ => ?_))
    exact Ends.sm ⟨_, _, rfl, rfl, rfl⟩
  · rfl
end CNT2
