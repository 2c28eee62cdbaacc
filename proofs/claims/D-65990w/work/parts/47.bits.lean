/-! L3: bits of longs as numbers: the lowest one, how many -/
section BITS
def uN (v : Int) : Nat := (v % 18446744073709551616).toNat
theorem tb_uN (v : Int) (i : Nat) : tb v i = (uN v).testBit i := by
  show ((BitVec.ofInt 64 v).toNat).testBit i = _
  rw [BitVec.toNat_ofInt]; rfl
theorem uN_lt (v : Int) : uN v < 18446744073709551616 := by unfold uN; omega
theorem uN_w (z : Int) : uN (w64 z) = uN z := by
  unfold uN w64
  rw [show (18446744073709551616 : Int) = ((18446744073709551616 : Nat) : Int) from rfl, Int.bmod_emod]
theorem uN_add (x y : Int) : uN (bop64 97 x y) = (uN x + uN y) % 18446744073709551616 := by
  show uN (w64 (x + y)) = _
  rw [uN_w]; unfold uN; omega
theorem uN_sub (x y : Int) : uN (bop64 101 x y) = (uN x + 18446744073709551616 - uN y) % 18446744073709551616 := by
  show uN (w64 (x - y)) = _
  rw [uN_w]; unfold uN; omega
theorem nat_tb {a b : Nat} (ha : a < 18446744073709551616) (hb : b < 18446744073709551616) (h : ∀ i, i < 64 → a.testBit i = b.testBit i) : a = b := by
  refine Nat.eq_of_testBit_eq (fun i => ?_)
  by_cases hi : i < 64
  · exact h i hi
  · have e : (18446744073709551616 : Nat) = 2 ^ 64 := rfl
    have h1 : 2 ^ 64 ≤ 2 ^ i := Nat.pow_le_pow_right (by decide) (by omega)
    rw [Nat.testBit_lt_two_pow (by omega), Nat.testBit_lt_two_pow (by omega)]
theorem uN_and (x y : Int) : uN (bop64 127 x y) = uN x &&& uN y := by
  refine nat_tb (uN_lt _) (Nat.lt_of_le_of_lt Nat.and_le_left (uN_lt _)) (fun i _ => ?_)
  rw [← tb_uN, tb_and, Nat.testBit_and, tb_uN, tb_uN]
theorem uN_shr (x : Int) {k : Nat} (hk : k < 64) : uN (sop64 125 x (k : Int)) = uN x / 2 ^ k := by
  refine nat_tb (uN_lt _) (Nat.lt_of_le_of_lt (Nat.div_le_self _ _) (uN_lt _)) (fun i _ => ?_)
  rw [← tb_uN, tb_shr x hk, Nat.testBit_div_two_pow, tb_uN, Nat.add_comm]
theorem uN_z {v : Int} (hv : cn 1 v) : v = 0 ↔ uN v = 0 := by
  unfold uN; have := hv.1; have := hv.2; omega
/- the lowest bit -/
theorem low_ex {N : Nat} (h : N ≠ 0) : ∃ k, N.testBit k = true ∧ ∀ j, j < k → N.testBit j = false := by
  obtain ⟨i, hi⟩ := Nat.exists_testBit_of_ne_zero h
  have key : ∀ m i, i ≤ m → N.testBit i = true → ∃ k, N.testBit k = true ∧ ∀ j, j < k → N.testBit j = false := by
    intro m
    induction m with
    | zero => intro i h1 h2; exact ⟨i, h2, fun j hj => by omega⟩
    | succ m ih =>
      intro i h1 h2
      by_cases q : ∃ j, j < i ∧ N.testBit j = true
      · obtain ⟨j, q1, q2⟩ := q
        exact ih j (by omega) q2
      · refine ⟨i, h2, fun j hj => ?_⟩
        cases e : N.testBit j
        · rfl
        · exact absurd ⟨j, hj, e⟩ q
  exact key i i (Nat.le_refl _) hi
theorem low_split {N k : Nat} (h1 : N.testBit k = true) (h0 : ∀ j, j < k → N.testBit j = false) : ∃ m, N = 2 ^ (k + 1) * m + 2 ^ k := by
  refine ⟨N / 2 ^ (k + 1), ?_⟩
  have e : N % 2 ^ (k + 1) = 2 ^ k := by
    refine Nat.eq_of_testBit_eq (fun j => ?_)
    rw [Nat.testBit_mod_two_pow, Nat.testBit_two_pow]
    by_cases q : j = k
    · subst q; rw [h1]; simp
    · by_cases q2 : j < k
      · rw [h0 j q2]; simp; omega
      · have : ¬ j < k + 1 := by omega
        simp [this]; omega
  rw [← e]
  exact (Nat.div_add_mod N (2 ^ (k + 1))).symm
theorem low_less {N k : Nat} (h1 : N.testBit k = true) (h0 : ∀ j, j < k → N.testBit j = false) (j : Nat) : (N &&& (N - 1)).testBit j = (decide (j ≠ k) && N.testBit j) := by
  obtain ⟨m, e⟩ := low_split h1 h0
  have hp : 2 ^ k < 2 ^ (k + 1) := Nat.pow_lt_pow_right (by decide) (by omega)
  have h2 : 0 < 2 ^ k := Nat.two_pow_pos k
  have e2 : N - 1 = 2 ^ (k + 1) * m + (2 ^ k - 1) := by omega
  rw [Nat.testBit_and, e2, e, Nat.testBit_two_pow_mul_add _ hp, Nat.testBit_two_pow_mul_add _ (by omega), Nat.testBit_two_pow, Nat.testBit_two_pow_sub_one]
  by_cases q : j < k + 1
  · simp only [q, if_true]
    by_cases q2 : k = j
    · subst q2; simp
    · simp [q2]
  · simp only [q, if_false, Bool.and_self]
    have : j ≠ k := by omega
    simp [this]
/-- v with its lowest bit k -/
def Low (v : Int) (k : Nat) : Prop := k < 64 ∧ tb v k = true ∧ ∀ j, j < k → tb v j = false
theorem Low.ex {v : Int} (hv : cn 1 v) (h : v ≠ 0) : ∃ k, Low v k := by
  obtain ⟨k, h1, h2⟩ := low_ex (fun e => h ((uN_z hv).mpr e))
  have hk : k < 64 := by
    apply Classical.byContradiction
    intro q
    rw [← tb_uN, tb_big (by omega)] at h1
    cases h1
  exact ⟨k, hk, by rw [tb_uN]; exact h1, fun j hj => by rw [tb_uN]; exact h2 j hj⟩
theorem Low.less {v : Int} {k : Nat} (l : Low v k) (j : Nat) : tb (bop64 127 v (bop64 101 v 1)) j = (decide (j ≠ k) && tb v j) := by
  have h1 : (uN v).testBit k = true := by rw [← tb_uN]; exact l.2.1
  have h0 : ∀ j, j < k → (uN v).testBit j = false := fun j hj => by rw [← tb_uN]; exact l.2.2 j hj
  have hpos : uN v ≠ 0 := fun e => by rw [e] at h1; simp at h1
  have hlt := uN_lt v
  have e : uN (bop64 101 v 1) = uN v - 1 := by
    rw [uN_sub, show uN 1 = 1 from rfl]; omega
  rw [tb_uN, uN_and, e, low_less h1 h0, tb_uN]
/- halves: the lowest bit of an int -/
theorem ntz_mask {N k : Nat} (hN : N < 4294967296) (h1 : N.testBit k = true) (h0 : ∀ j, j < k → N.testBit j = false) : (4294967295 - N) &&& (N - 1) = 2 ^ k - 1 := by
  obtain ⟨m, e⟩ := low_split h1 h0
  have hp : 2 ^ k < 2 ^ (k + 1) := Nat.pow_lt_pow_right (by decide) (by omega)
  have h2 : 0 < 2 ^ k := Nat.two_pow_pos k
  have e2 : N - 1 = 2 ^ (k + 1) * m + (2 ^ k - 1) := by omega
  refine Nat.eq_of_testBit_eq (fun j => ?_)
  rw [Nat.testBit_and, Nat.testBit_two_pow_sub_one]
  have e3 : (4294967295 - N).testBit j = (decide (j < 32) && !N.testBit j) := by
    have := Nat.testBit_two_pow_sub_succ (n := 32) (x := N) hN j
    rw [show (2 ^ 32 - (N + 1)) = 4294967295 - N by omega] at this
    exact this
  have hk : k < 32 := by
    apply Classical.byContradiction
    intro q
    have := Nat.testBit_lt_two_pow (x := N) (i := k) (Nat.lt_of_lt_of_le hN (Nat.pow_le_pow_right (n := 2) (i := 32) (by decide) (by omega)))
    rw [this] at h1; cases h1
  rw [e3]
  rw [e2]
  conv => lhs; rw [e]
  rw [Nat.testBit_two_pow_mul_add _ hp, Nat.testBit_two_pow_mul_add _ (by omega), Nat.testBit_two_pow, Nat.testBit_two_pow_sub_one]
  by_cases q : j < k + 1
  · simp only [q, if_true]
    by_cases q2 : k = j
    · subst q2; simp
    · have : j < k := by omega
      have : j < 32 := by omega
      simp [*]
  · have : ¬ j < k := by omega
    simp only [q, if_false, this, decide_false]
    cases m.testBit (j - (k + 1)) <;> simp
def uI (v : Int) : Nat := (v % 4294967296).toNat
theorem uI_w (z : Int) : uI (w32 z) = uI z := by
  unfold uI w32
  rw [show (4294967296 : Int) = ((4294967296 : Nat) : Int) from rfl, Int.bmod_emod]
theorem uI_ofN {z : Int} (hz : cn 0 z) {N : Nat} (h : uI z = N) (hN : N < 2147483648) : z = (N : Int) := by
  have := hz.1; have := hz.2; unfold uI at h; omega
theorem uI_bits (x y : Int) : uI (bop32 126 x y) = uI x &&& uI y := by
  show ((Int32.ofInt x &&& Int32.ofInt y).toInt % 4294967296).toNat = _
  have e : ∀ i : Int32, (i.toInt % 4294967296).toNat = i.toBitVec.toNat := fun i => by
    have := BitVec.toNat_ofInt (n := 32) i.toInt
    have e2 : BitVec.ofInt 32 i.toInt = i.toBitVec := by
      show (Int32.ofInt i.toInt).toBitVec = _
      rw [of_to32]
    rw [e2] at this
    exact this.symm
  rw [e, Int32.toBitVec_and, BitVec.toNat_and]
  show (BitVec.ofInt 32 x).toNat &&& (BitVec.ofInt 32 y).toNat = _
  rw [BitVec.toNat_ofInt, BitVec.toNat_ofInt]; rfl
theorem uI_not (x : Int) : uI (bop32 130 x (-1)) = 4294967295 - uI x := by
  have e : ∀ i : Int32, (i.toInt % 4294967296).toNat = i.toBitVec.toNat := fun i => by
    have := BitVec.toNat_ofInt (n := 32) i.toInt
    have e2 : BitVec.ofInt 32 i.toInt = i.toBitVec := by
      show (Int32.ofInt i.toInt).toBitVec = _
      rw [of_to32]
    rw [e2] at this
    exact this.symm
  show ((Int32.ofInt x ^^^ Int32.ofInt (-1)).toInt % 4294967296).toNat = _
  rw [e, Int32.toBitVec_xor]
  have e1 : (Int32.ofInt (-1)).toBitVec = BitVec.allOnes 32 := by decide
  rw [e1, BitVec.xor_allOnes, BitVec.toNat_not]
  show 2 ^ 32 - 1 - (BitVec.ofInt 32 x).toNat = _
  rw [BitVec.toNat_ofInt]; rfl
end BITS
