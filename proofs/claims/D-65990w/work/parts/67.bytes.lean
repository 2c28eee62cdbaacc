/-! L3: bytes in ints, four by four -/
theorem and255 (x : Int) : bop32 126 x 255 = x % 256 := and32 (k := 8) (by omega)
theorem bm256 {x t : Int} (h : x % 256 = t % 256) (h1 : -128 ≤ t) (h2 : t < 128) : x.bmod 256 = t := by
  rw [Int.bmod_def]
  split <;> omega
theorem w32_c (x y : Int) (h : x % 4294967296 = y % 4294967296) : w32 x = w32 y := by
  unfold w32
  rw [Int.bmod_def, Int.bmod_def, show ((4294967296 : Nat) : Int) = 4294967296 from rfl, h]
theorem w32_m (x : Int) : w32 x % 4294967296 = x % 4294967296 := by
  unfold w32
  rw [Int.bmod_def, show ((4294967296 : Nat) : Int) = 4294967296 from rfl]
  split <;> omega
theorem shl32 (x : Int) {k : Nat} (hk : k < 32) : bop32 120 x (k : Int) = w32 (x * 2 ^ k) := by
  show (Int32.ofInt x <<< (Int32.ofInt (k : Int) &&& 31)).toBitVec.toInt = _
  rw [Int32.toBitVec_shiftLeft, sh_c32 ⟨k, hk⟩]
  have hm : (BitVec.ofNat 32 k).toNat = k := by rw [BitVec.toNat_ofNat]; exact Nat.mod_eq_of_lt (by omega)
  rw [BitVec.shiftLeft_eq', BitVec.toInt_shiftLeft, hm]
  have e4 : (Int32.ofInt x).toBitVec.toNat = (x % ((2 ^ 32 : Nat) : Int)).toNat := BitVec.toNat_ofInt ..
  have h5 : 0 ≤ x % ((2 ^ 32 : Nat) : Int) := Int.emod_nonneg _ (by decide)
  rw [e4, Nat.shiftLeft_eq]
  have e6 : (((x % ((2 ^ 32 : Nat) : Int)).toNat * 2 ^ k : Nat) : Int) = (x % 4294967296) * 2 ^ k := by
    rw [Int.natCast_mul, Int.toNat_of_nonneg h5, Int.natCast_pow]; rfl
  rw [e6]
  show w32 _ = _
  refine w32_c _ _ ?_
  rw [Int.mul_emod, Int.emod_emod_of_dvd _ (Int.dvd_refl _), ← Int.mul_emod]
theorem or_lo {z y : Int} (h1 : 0 ≤ y) (h2 : y < 256) : bop32 128 (bop32 120 z 8) y = w32 (z * 256 + y) := by
  show (Int32.ofInt (Int32.ofInt z <<< (Int32.ofInt ((8 : Nat) : Int) &&& 31)).toInt ||| Int32.ofInt y).toBitVec.toInt = _
  rw [Int32.ofInt_toInt, Int32.toBitVec_or, Int32.toBitVec_shiftLeft, sh_c32 ⟨8, by decide⟩, BitVec.shiftLeft_eq']
  have hm : (BitVec.ofNat 32 8).toNat = 8 := rfl
  rw [hm, ← BitVec.add_eq_or_of_and_eq_zero]
  · rw [BitVec.toInt_add, BitVec.toInt_shiftLeft]
    have e4 : (Int32.ofInt z).toBitVec.toNat = (z % ((2 ^ 32 : Nat) : Int)).toNat := BitVec.toNat_ofInt ..
    have h5 : 0 ≤ z % ((2 ^ 32 : Nat) : Int) := Int.emod_nonneg _ (by decide)
    have e5 : (Int32.ofInt y).toBitVec.toInt = y := (to32 y).trans (w32_id ⟨by omega, by omega⟩)
    rw [e4, e5, Nat.shiftLeft_eq]
    have e6 : (((z % ((2 ^ 32 : Nat) : Int)).toNat * 2 ^ 8 : Nat) : Int) = (z % 4294967296) * 256 := by
      rw [Int.natCast_mul, Int.toNat_of_nonneg h5]; rfl
    rw [e6]
    show w32 (w32 _ + y) = _
    refine w32_c _ _ ?_
    have := w32_m (z % 4294967296 * 256)
    omega
  · apply BitVec.eq_of_getLsbD_eq
    intro i hi
    rw [BitVec.getLsbD_and, BitVec.getLsbD_shiftLeft]
    by_cases h8 : i < 8
    · simp [h8]
    · have : (Int32.ofInt y).toBitVec.getLsbD i = false := by
        have t : (Int32.ofInt y).toBitVec.toNat = y.toNat := by
          show (BitVec.ofInt 32 y).toNat = _
          rw [BitVec.toNat_ofInt, Int.emod_eq_of_lt h1 (by omega)]
        show Nat.testBit _ i = false
        rw [t]
        exact Nat.testBit_lt_two_pow (Nat.lt_of_lt_of_le (show y.toNat < 2 ^ 8 by omega) (Nat.pow_le_pow_right (by decide) (by omega)))
      rw [this, Bool.and_false]; simp
/-- four bytes as a cell has them -/
def pk4 (a b c e : Int) : Int := w32 (((a % 256 * 256 + b % 256) * 256 + c % 256) * 256 + e % 256)
theorem pk4_at {a b c e : Int} (ha : -128 ≤ a ∧ a < 128) (hb : -128 ≤ b ∧ b < 128) (hc : -128 ≤ c ∧ c < 128) (he : -128 ≤ e ∧ e < 128) : uop 4 (bop32 122 (pk4 a b c e) 24) = a ∧ uop 4 (bop32 122 (pk4 a b c e) 16) = b ∧ uop 4 (bop32 122 (pk4 a b c e) 8) = c ∧ uop 4 (bop32 122 (pk4 a b c e) 0) = e := by
  have hw : cn 0 (pk4 a b c e) := w32_cn _
  have hm : pk4 a b c e % 4294967296 = (((a % 256 * 256 + b % 256) * 256 + c % 256) * 256 + e % 256) % 4294967296 := w32_m _
  have hw : -2147483648 ≤ pk4 a b c e ∧ pk4 a b c e < 2147483648 := hw
  have s1 := shr32 (k := 24) hw (by decide)
  have s2 := shr32 (k := 16) hw (by decide)
  have s3 := shr32 (k := 8) hw (by decide)
  have s4 := shr32 (k := 0) hw (by decide)
  generalize pk4 a b c e = v at *
  refine ⟨?_, ?_, ?_, ?_⟩
  · show (bop32 122 v ((24 : Nat) : Int)).bmod 256 = a
    rw [s1]; exact bm256 (by omega) ha.1 ha.2
  · show (bop32 122 v ((16 : Nat) : Int)).bmod 256 = b
    rw [s2]; exact bm256 (by omega) hb.1 hb.2
  · show (bop32 122 v ((8 : Nat) : Int)).bmod 256 = c
    rw [s3]; exact bm256 (by omega) hc.1 hc.2
  · show (bop32 122 v ((0 : Nat) : Int)).bmod 256 = e
    rw [s4]; exact bm256 (by omega) he.1 he.2
theorem pk4_fold (a b c e : Int) : w32 (w32 (w32 (w32 (0 * 256 + a % 256) * 256 + b % 256) * 256 + c % 256) * 256 + e % 256) = pk4 a b c e := by
  unfold pk4
  refine w32_c _ _ ?_
  have h1 := w32_m (0 * 256 + a % 256)
  have h2 := w32_m (w32 (0 * 256 + a % 256) * 256 + b % 256)
  have h3 := w32_m (w32 (w32 (0 * 256 + a % 256) * 256 + b % 256) * 256 + c % 256)
  omega
