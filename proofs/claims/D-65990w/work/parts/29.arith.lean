/-! L3: arithmetic of ints and longs where nothing overflows; bits of longs -/
theorem add32 {x y : Int} (h1 : -2147483648 ≤ x + y) (h2 : x + y < 2147483648) : bop32 96 x y = x + y := w32_id ⟨h1, h2⟩
theorem sub32 {x y : Int} (h1 : -2147483648 ≤ x - y) (h2 : x - y < 2147483648) : bop32 100 x y = x - y := w32_id ⟨h1, h2⟩
theorem mul32 {x y : Int} (h1 : -2147483648 ≤ x * y) (h2 : x * y < 2147483648) : bop32 104 x y = x * y := w32_id ⟨h1, h2⟩
theorem inc32 {x y : Int} (h1 : -2147483648 ≤ x + y) (h2 : x + y < 2147483648) : w32 (x + y) = x + y := w32_id ⟨h1, h2⟩
theorem neg32 {x : Int} (h1 : -2147483647 ≤ x) (h2 : x < 2147483648) : uop 0 x = -x := w32_id ⟨by omega, by omega⟩
theorem add64 {x y : Int} (h1 : -9223372036854775808 ≤ x + y) (h2 : x + y < 9223372036854775808) : bop64 97 x y = x + y := w64_id ⟨h1, h2⟩
theorem sub64 {x y : Int} (h1 : -9223372036854775808 ≤ x - y) (h2 : x - y < 9223372036854775808) : bop64 101 x y = x - y := w64_id ⟨h1, h2⟩
theorem mul64 {x y : Int} (h1 : -9223372036854775808 ≤ x * y) (h2 : x * y < 9223372036854775808) : bop64 105 x y = x * y := w64_id ⟨h1, h2⟩
theorem neg64 {x : Int} (h1 : -9223372036854775807 ≤ x) (h2 : x < 9223372036854775808) : uop 1 x = -x := w64_id ⟨by omega, by omega⟩
/-- a quotient and a rest of what is not negative -/
theorem dv32 {x y : Int} (hx : 0 ≤ x) (h2 : x < 2147483648) (hy : 0 < y) : bop32 108 x y = x / y := by
  show w32 (x.tdiv y) = x / y
  rw [Int.tdiv_eq_ediv_of_nonneg hx]
  refine w32_id ⟨?_, ?_⟩
  · have := Int.ediv_nonneg hx (Int.le_of_lt hy); omega
  · have := Int.ediv_le_self y hx; omega
theorem rm32 {x y : Int} (hx : 0 ≤ x) (h2 : y ≤ 2147483648) (hy : 0 < y) : bop32 112 x y = x % y := by
  show w32 (x.tmod y) = x % y
  rw [Int.tmod_eq_emod_of_nonneg hx]
  have h3 := Int.emod_nonneg x (by omega : y ≠ 0)
  have h4 := Int.emod_lt_of_pos x hy
  exact w32_id ⟨by omega, by omega⟩
theorem cmp64_lt {x y : Int} (h : x < y) : cmp64 x y = -1 := if_pos h
theorem cmp64_eq {x : Int} : cmp64 x x = 0 := by unfold cmp64; simp
theorem cmp64_gt {x y : Int} (h : y < x) : cmp64 x y = 1 := by
  unfold cmp64
  rw [if_neg (by omega), if_neg (by omega)]
theorem cmp64_z {x y : Int} : cmp64 x y = 0 ↔ x = y := by
  unfold cmp64
  split
  · constructor <;> intro h <;> omega
  · split
    · next h => exact ⟨fun _ => h, fun _ => rfl⟩
    · next h => exact ⟨fun h => by omega, fun q => absurd q h⟩
/-- a bit of a long -/
def tb (v : Int) (i : Nat) : Bool := (Int64.ofInt v).toBitVec.getLsbD i
theorem tb_big {v : Int} {i : Nat} (h : 64 ≤ i) : tb v i = false := BitVec.getLsbD_of_ge _ _ h
theorem tb_or (x y : Int) (i : Nat) : tb (bop64 129 x y) i = (tb x i || tb y i) := by
  show (Int64.ofInt (Int64.ofInt x ||| Int64.ofInt y).toInt).toBitVec.getLsbD i = _
  rw [of_to64, Int64.toBitVec_or, BitVec.getLsbD_or]; rfl
theorem tb_and (x y : Int) (i : Nat) : tb (bop64 127 x y) i = (tb x i && tb y i) := by
  show (Int64.ofInt (Int64.ofInt x &&& Int64.ofInt y).toInt).toBitVec.getLsbD i = _
  rw [of_to64, Int64.toBitVec_and, BitVec.getLsbD_and]; rfl
theorem tb_xor (x y : Int) (i : Nat) : tb (bop64 131 x y) i = (tb x i ^^ tb y i) := by
  show (Int64.ofInt (Int64.ofInt x ^^^ Int64.ofInt y).toInt).toBitVec.getLsbD i = _
  rw [of_to64, Int64.toBitVec_xor, BitVec.getLsbD_xor]; rfl
theorem tb_0 (i : Nat) : tb 0 i = false := by
  unfold tb
  show (BitVec.ofInt 64 0).getLsbD i = false
  simp
theorem tb_m1 {i : Nat} (h : i < 64) : tb (-1) i = true := by
  have : ∀ j : Fin 64, tb (-1) j = true := by decide +kernel
  exact this ⟨i, h⟩
theorem tb_not (x : Int) {i : Nat} (h : i < 64) : tb (bop64 131 x (-1)) i = !tb x i := by
  rw [tb_xor, tb_m1 h]; cases tb x i <;> rfl
theorem tb_ext {x y : Int} (hx : cn 1 x) (hy : cn 1 y) (h : ∀ i, i < 64 → tb x i = tb y i) : x = y := by
  have : Int64.ofInt x = Int64.ofInt y := Int64.toBitVec_inj.mp (BitVec.eq_of_getLsbD_eq (fun i hi => h i hi))
  exact (eq64 hx hy).mp this
theorem cn_bop64 {o : Nat} {x y : Int} : cn 1 (bop64 o x y) := bop64_cn o x y
/-- counts of shifts -/
theorem sh_c : ∀ k : Fin 64, ((Int32.ofInt (k : Nat)).toInt64 &&& 63).toBitVec.smod 64 = BitVec.ofNat 64 k := by decide +kernel
theorem sh_u : ∀ k : Fin 64, ((Int32.ofInt (k : Nat)).toInt64.toUInt64 &&& Int64.toUInt64 63) = UInt64.ofNat k := by decide +kernel
theorem tb_shl (x : Int) {k i : Nat} (hk : k < 64) (hi : i < 64) : tb (sop64 121 x (k : Int)) i = (decide (k ≤ i) && tb x (i - k)) := by
  show (Int64.ofInt (Int64.ofInt x <<< ((Int32.ofInt (k : Int)).toInt64 &&& 63)).toInt).toBitVec.getLsbD i = _
  rw [of_to64, Int64.toBitVec_shiftLeft, sh_c ⟨k, hk⟩]
  have hm : (BitVec.ofNat 64 k).toNat = k := by rw [BitVec.toNat_ofNat]; exact Nat.mod_eq_of_lt (by omega)
  rw [BitVec.shiftLeft_eq', BitVec.getLsbD_shiftLeft, hm]
  by_cases h : k ≤ i
  · simp [h, hi, tb]
  · simp [h, Nat.lt_of_not_le h]
theorem tb_shr (x : Int) {k i : Nat} (hk : k < 64) : tb (sop64 125 x (k : Int)) i = tb x (k + i) := by
  show (Int64.ofInt ((((Int64.ofInt x).toUInt64 >>> ((Int32.ofInt (k : Int)).toInt64.toUInt64 &&& Int64.toUInt64 63)).toInt64).toInt)).toBitVec.getLsbD i = _
  rw [of_to64, sh_u ⟨k, hk⟩]
  show ((Int64.ofInt x).toUInt64 >>> UInt64.ofNat k).toBitVec.getLsbD i = _
  rw [UInt64.toBitVec_shiftRight, BitVec.ushiftRight_eq', BitVec.getLsbD_ushiftRight]
  have hm : ((UInt64.ofNat k).toBitVec % 64).toNat = k := by
    have : ∀ j : Fin 64, ((UInt64.ofNat (j : Nat)).toBitVec % 64).toNat = j := by decide +kernel
    exact this ⟨k, hk⟩
  rw [hm]; rfl
theorem tb_sar (x : Int) {k i : Nat} (hk : k < 64) (hi : i < 64) : tb (sop64 123 x (k : Int)) i = if k + i < 64 then tb x (k + i) else tb x 63 := by
  show (Int64.ofInt (Int64.ofInt x >>> ((Int32.ofInt (k : Int)).toInt64 &&& 63)).toInt).toBitVec.getLsbD i = _
  rw [of_to64, Int64.toBitVec_shiftRight, sh_c ⟨k, hk⟩]
  have hm : (BitVec.ofNat 64 k).toNat = k := by rw [BitVec.toNat_ofNat]; exact Nat.mod_eq_of_lt (by omega)
  rw [BitVec.sshiftRight_eq', BitVec.getLsbD_sshiftRight, hm]
  have h64 : ¬ 64 ≤ i := by omega
  simp only [h64, decide_false, Bool.not_false, Bool.true_and, tb]
  split
  · rfl
  · rfl
/-- bit k of a long, as 'v >> k & 1' has it -/
theorem bit_is (x : Int) {k : Nat} (hk : k < 64) : bop64 127 (sop64 123 x (k : Int)) 1 = if tb x k then 1 else 0 := by
  refine tb_ext cn_bop64 (by split <;> exact ⟨by decide, by decide⟩) (fun i hi => ?_)
  rw [tb_and, tb_sar x hk hi]
  have h1 : ∀ j : Fin 64, tb 1 j = decide ((j : Nat) = 0) := by decide +kernel
  rw [h1 ⟨i, hi⟩]
  by_cases h0 : i = 0
  · subst h0
    simp only [Nat.add_zero, hk, if_true, decide_true, Bool.and_true]
    cases tb x k
    · simp [tb_0]
    · simp [h1 ⟨0, by decide⟩]
  · have : decide (i = 0) = false := by simp [h0]
    rw [this, Bool.and_false]
    cases tb x k
    · simp [tb_0]
    · simp [h1 ⟨i, hi⟩, h0]
/-- a single bit: '1L << k' -/
theorem one_bit {k i : Nat} (hk : k < 64) (hi : i < 64) : tb (sop64 121 1 (k : Int)) i = decide (i = k) := by
  rw [tb_shl 1 hk hi]
  have h1 : ∀ j : Fin 64, tb 1 j = decide ((j : Nat) = 0) := by decide +kernel
  by_cases h : k ≤ i
  · rw [h1 ⟨i - k, by omega⟩]
    by_cases e : i = k
    · subst e; simp
    · have h2 : ¬ i - k = 0 := by omega
      simp [h, e, h2]
  · have : ¬ i = k := by omega
    simp [h, this]
theorem tb_mask {n i : Nat} (hn : n ≤ 52) : tb (2 ^ n - 1 : Int) i = decide (i < n) := by
  have : ∀ m : Fin 53, ∀ j : Fin 64, tb (2 ^ (m : Nat) - 1 : Int) j = decide ((j : Nat) < m) := by decide +kernel
  by_cases h : i < 64
  · exact this ⟨n, by omega⟩ ⟨i, h⟩
  · rw [tb_big (by omega)]
    have : ¬ i < n := by omega
    simp [this]
theorem cn_mask {n : Nat} (hn : n ≤ 52) : cn 1 (2 ^ n - 1 : Int) := by
  have : ∀ m : Fin 53, -9223372036854775808 ≤ (2 ^ (m : Nat) - 1 : Int) ∧ (2 ^ (m : Nat) - 1 : Int) < 9223372036854775808 := by decide +kernel
  exact this ⟨n, by omega⟩
/-- a long is nothing: no bit -/
theorem tb_z {x : Int} (hx : cn 1 x) : x = 0 ↔ ∀ i, i < 64 → tb x i = false := by
  constructor
  · rintro rfl i _; exact tb_0 i
  · intro h; exact tb_ext hx ⟨by decide, by decide⟩ (fun i hi => by rw [h i hi, tb_0])
/-- a cell's contents anew -/
def hup (h : AH) (a : Nat) (f : Nat → Int) : AH := (h.1, fun c j => if c = a then f j else h.2.1 c j, h.2.2)
theorem hv_up (h : AH) (a : Nat) (f : Nat → Int) (c j : Nat) : hv (hup h a f) c j = if c = a then f j else hv h c j := rfl
theorem hk_up (h : AH) (a : Nat) (f : Nat → Int) (c : Nat) : hk (hup h a f) c = hk h c := rfl
theorem hnx_up (h : AH) (a : Nat) (f : Nat → Int) : hnx (hup h a f) = hnx h := rfl
theorem hus_up (h : AH) (a : Nat) (f : Nat → Int) : hus (hup h a f) = hus h := rfl
theorem hup_self (h : AH) (a : Nat) : hup h a (hv h a) = h := by
  obtain ⟨k, c, x⟩ := h
  show (k, (fun b j => if b = a then c a j else c b j), x) = (k, c, x)
  congr 2
  funext b j
  by_cases e : b = a
  · subst e; simp
  · simp [e]
theorem hset_up (h : AH) (a : Nat) (f : Nat → Int) (k : Nat) (v : Int) : hset (hup h a f) a k v = hup h a (fun j => if j = k then v else f j) := by
  obtain ⟨kk, c, x⟩ := h
  show (kk, _, x) = (kk, _, x)
  congr 2
  funext b j
  by_cases e : b = a
  · subst e; simp [hup]
  · simp [hup, e]
theorem hset_eq (h : AH) (a k : Nat) (v : Int) : hset h a k v = hup h a (fun j => if j = k then v else hv h a j) := by
  conv => lhs; rw [← hup_self h a]
  rw [hset_up]
theorem hup_up (h : AH) (a : Nat) (f g : Nat → Int) : hup (hup h a f) a g = hup h a g := by
  obtain ⟨kk, c, x⟩ := h
  show (kk, _, x) = (kk, _, x)
  congr 2
  funext b j
  by_cases e : b = a
  · subst e; simp [hup]
  · simp [hup, e]
theorem hup_congr {h : AH} {a : Nat} {f g : Nat → Int} (e : ∀ j, f j = g j) : hup h a f = hup h a g := by rw [show f = g from funext e]
theorem LX.up {B n : Nat} {h : AH} {a t : Nat} {f : Nat → Int} (l : LX B n h) (ha : (hk h a).1 = t + 2) : LX B n (hup h a f) := by
  refine ⟨l.1, fun e he => ?_, l.2.2⟩
  obtain ⟨c, h1, h2, h3⟩ := fix_obj he
  rw [hv_up, if_neg (ne_k (l.1 _ _ h1) ha)]
  exact l.2.1 e he
