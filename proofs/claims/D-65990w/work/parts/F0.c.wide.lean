/-! L3: equations: numbers of 128 bits in two longs -/
section WIDE
variable {gv : Nat → Int} {B n d : Nat} {h : AH}
theorem sar64 {x : Int} (hx : cn 1 x) {k : Nat} (hk : k < 64) : sop64 123 x (k : Int) = x / 2 ^ k := by
  show (Int64.ofInt x >>> ((Int32.ofInt (k : Int)).toInt64 &&& 63)).toInt = _
  have e : (Int64.ofInt x >>> ((Int32.ofInt (k : Int)).toInt64 &&& 63)).toInt = ((Int64.ofInt x >>> ((Int32.ofInt (k : Int)).toInt64 &&& 63)).toBitVec).toInt := rfl
  rw [e, Int64.toBitVec_shiftRight, sh_c ⟨k, hk⟩]
  have hm : (BitVec.ofNat 64 k).toNat = k := by rw [BitVec.toNat_ofNat]; exact Nat.mod_eq_of_lt (by omega)
  rw [BitVec.sshiftRight_eq', BitVec.toInt_sshiftRight, hm, Int.shiftRight_eq_div_pow]
  have : (Int64.ofInt x).toBitVec.toInt = x := by
    have := to64 x
    rw [w64_id hx] at this
    exact this
  rw [this]
  norm_cast
theorem wmod (x : Int) : w64 x % 18446744073709551616 = x % 18446744073709551616 := by
  unfold w64
  exact Int.bmod_emod
theorem w_eq {x y : Int} (hy : cn 1 y) (e : x % 18446744073709551616 = y % 18446744073709551616) : w64 x = y := by
  have h := w64_id hy
  rw [← h]
  unfold w64 Int.bmod
  have : x % ((18446744073709551616 : Nat) : Int) = y % ((18446744073709551616 : Nat) : Int) := e
  rw [this]
theorem uN_pos {v : Int} (hv : cn 1 v) (h : uN v < 9223372036854775808) : v = ((uN v : Nat) : Int) := by
  have h1 : -9223372036854775808 ≤ v := hv.1
  have h2 : v < 9223372036854775808 := hv.2
  unfold uN at h ⊢
  omega
theorem uN_n {x : Nat} (h : x < 18446744073709551616) : uN ((x : Nat) : Int) = x := by unfold uN; omega
theorem lo32 (x : Int) : bop64 127 x 4294967295 = x % 4294967296 := by
  have e : uN (bop64 127 x 4294967295) = uN x % 4294967296 := by
    rw [uN_and, show uN 4294967295 = 2 ^ 32 - 1 from by decide +kernel, Nat.and_two_pow_sub_one_eq_mod]
  have b := uN_pos (v := bop64 127 x 4294967295) cn_bop64 (by rw [e]; omega)
  rw [b, e]
  unfold uN
  omega
theorem hi32 {x : Int} (hx : cn 1 x) : sop64 123 x 32 = x / 4294967296 := sar64 (k := 32) hx (by decide)
theorem mb {x y l u c : Int} (h1 : l ≤ x) (h2 : x ≤ u) (h3 : 0 ≤ y) (h4 : y ≤ c) (h5 : l ≤ 0) (h6 : 0 ≤ u) : l * c ≤ x * y ∧ x * y ≤ u * c := by
  constructor
  · exact Int.le_trans (Int.mul_le_mul_of_nonpos_left h5 h4) (Int.mul_le_mul_of_nonneg_right h1 h3)
  · exact Int.le_trans (Int.mul_le_mul_of_nonneg_right h2 h3) (Int.mul_le_mul_of_nonneg_left h4 h6)
/-- the upper half of a product -/
theorem v893_is {a b : Int} (ha : cn 1 a) (hb : cn 1 b) : v893 a b = a * b / 18446744073709551616 := by
  have a1 : -9223372036854775808 ≤ a := ha.1
  have a2 : a < 9223372036854775808 := ha.2
  have b1 : -9223372036854775808 ≤ b := hb.1
  have b2 : b < 9223372036854775808 := hb.2
  obtain ⟨x1, ex1⟩ : ∃ x1, x1 = a / 4294967296 := ⟨_, rfl⟩
  obtain ⟨x0, ex0⟩ : ∃ x0, x0 = a % 4294967296 := ⟨_, rfl⟩
  obtain ⟨y1, ey1⟩ : ∃ y1, y1 = b / 4294967296 := ⟨_, rfl⟩
  obtain ⟨y0, ey0⟩ : ∃ y0, y0 = b % 4294967296 := ⟨_, rfl⟩
  unfold v893
  rw [hi32 ha, hi32 hb, lo32 a, lo32 b, ← ex1, ← ex0, ← ey1, ← ey0]
  have p00 := mb (x := x0) (y := y0) (l := 0) (u := 4294967295) (c := 4294967295) (by omega) (by omega) (by omega) (by omega) (by omega) (by omega)
  have p10 := mb (x := x1) (y := y0) (l := -2147483648) (u := 2147483647) (c := 4294967295) (by omega) (by omega) (by omega) (by omega) (by omega) (by omega)
  have p01 := mb (x := y1) (y := x0) (l := -2147483648) (u := 2147483647) (c := 4294967295) (by omega) (by omega) (by omega) (by omega) (by omega) (by omega)
  have p11 : -4611686018427387904 ≤ x1 * y1 ∧ x1 * y1 ≤ 4611686018427387904 := by
    rcases Int.le_total 0 y1 with z | z
    · have := mb (x := x1) (y := y1) (l := -2147483648) (u := 2147483648) (c := 2147483648) (by omega) (by omega) z (by omega) (by omega) (by omega)
      omega
    · have := mb (x := x1) (y := -y1) (l := -2147483648) (u := 2147483648) (c := 2147483648) (by omega) (by omega) (by omega) (by omega) (by omega) (by omega)
      rw [Int.mul_neg] at this
      omega
  have eab : a * b = x1 * y1 * 18446744073709551616 + (x1 * y0 + y1 * x0) * 4294967296 + x0 * y0 := by
    have e1 : a = x1 * 4294967296 + x0 := by omega
    have e2 : b = y1 * 4294967296 + y0 := by omega
    rw [e1, e2]; grind
  rw [Int.mul_comm y1 x0] at p01 eab
  rw [eab]
  clear eab ex1 ex0 ey1 ey0
  have z2 : sop64 125 (bop64 105 x0 y0) 32 = x0 * y0 / 4294967296 := by
    have e : uN (sop64 125 (bop64 105 x0 y0) 32) = uN (x0 * y0) / 4294967296 := by
      rw [show (32 : Int) = ((32 : Nat) : Int) from rfl, uN_shr _ (by decide)]
      show uN (w64 (x0 * y0)) / 2 ^ 32 = _
      rw [uN_w]
    have e2 : uN (x0 * y0) = (x0 * y0).toNat := by unfold uN; omega
    have b := uN_pos (v := sop64 125 (bop64 105 x0 y0) 32) (cn_to64 _) (by rw [e, e2]; omega)
    rw [b, e, e2]
    omega
  have m10 : bop64 105 x1 y0 = x1 * y0 := mul64 (by omega) (by omega)
  have m01 : bop64 105 x0 y1 = x0 * y1 := mul64 (by omega) (by omega)
  have m11 : bop64 105 x1 y1 = x1 * y1 := mul64 (by omega) (by omega)
  rw [z2, m10, m01, m11]
  clear z2 m10 m01 m11
  generalize x0 * y0 = P at *
  generalize x1 * y0 = Q at *
  generalize x0 * y1 = R at *
  generalize x1 * y1 = T at *
  have t1 : bop64 97 Q (P / 4294967296) = Q + P / 4294967296 := add64 (by omega) (by omega)
  rw [t1]
  clear t1
  obtain ⟨t, et⟩ : ∃ t, t = Q + P / 4294967296 := ⟨_, rfl⟩
  rw [← et]
  have ct : cn 1 t := ⟨by omega, by omega⟩
  rw [hi32 ct, lo32 t]
  have t2 : bop64 97 (t % 4294967296) R = t % 4294967296 + R := add64 (by omega) (by omega)
  rw [t2]
  clear t2
  obtain ⟨z, ez⟩ : ∃ z, z = t % 4294967296 + R := ⟨_, rfl⟩
  rw [← ez]
  have cz : cn 1 z := ⟨by omega, by omega⟩
  rw [hi32 cz]
  have t3 : bop64 97 T (t / 4294967296) = T + t / 4294967296 := add64 (by omega) (by omega)
  rw [t3]
  clear t3
  have t4 : bop64 97 (T + t / 4294967296) (z / 4294967296) = T + t / 4294967296 + z / 4294967296 := add64 (by omega) (by omega)
  rw [t4]
  clear t4
  omega
/-- less, as numbers without a sign -/
theorem v882_is {x y : Int} (hx : cn 1 x) (hy : cn 1 y) : cond (tst 3 (v882 x y) 0) (0 : Int) 1 = if x % 18446744073709551616 < y % 18446744073709551616 then 1 else 0 := by
  have x1 : -9223372036854775808 ≤ x := hx.1
  have x2 : x < 9223372036854775808 := hx.2
  have y1 : -9223372036854775808 ≤ y := hy.1
  have y2 : y < 9223372036854775808 := hy.2
  have sh : ∀ z : Int, -9223372036854775808 ≤ z → z < 9223372036854775808 → bop64 97 z (-9223372036854775808) = z % 18446744073709551616 - 9223372036854775808 := fun z z1 z2 => by
    show w64 (z + -9223372036854775808) = _
    exact w_eq ⟨by omega, by omega⟩ (by omega)
  unfold v882 v881
  rw [sh x x1 x2, sh y y1 y2, ct3]
  unfold cmp64
  generalize x % 18446744073709551616 = u
  generalize y % 18446744073709551616 = v
  by_cases c1 : u - 9223372036854775808 < v - 9223372036854775808
  · rw [if_pos c1, if_pos (show u < v by omega)]; rfl
  · rw [if_neg c1, if_neg (show ¬ u < v by omega)]
    by_cases c2 : u - 9223372036854775808 = v - 9223372036854775808
    · rw [if_pos c2]; rfl
    · rw [if_neg c2]; rfl
/-- two longs are a number (as far as 128 bits tell it) -/
def W2 (hi lo X : Int) : Prop := cn 1 lo ∧ lo % 18446744073709551616 = X % 18446744073709551616 ∧ hi % 18446744073709551616 = X / 18446744073709551616 % 18446744073709551616
theorem W2.sub {a b c e : Int} (ha : cn 1 a) (hb : cn 1 b) (hc : cn 1 c) (he : cn 1 e) : W2 (bop64 101 (bop64 101 (v893 a b) (v893 c e)) (cond (tst 3 (v882 (bop64 105 a b) (bop64 105 c e)) 0) 0 1)) (bop64 101 (bop64 105 a b) (bop64 105 c e)) (a * b - c * e) := by
  rw [v882_is cn_bop64 cn_bop64, v893_is ha hb, v893_is hc he]
  generalize eP : a * b = P
  generalize eQ : c * e = Q
  have e1 : bop64 105 a b % 18446744073709551616 = P % 18446744073709551616 := by
    show w64 (a * b) % _ = _
    rw [wmod, eP]
  have e2 : bop64 105 c e % 18446744073709551616 = Q % 18446744073709551616 := by
    show w64 (c * e) % _ = _
    rw [wmod, eQ]
  rw [e1, e2]
  refine ⟨cn_bop64, ?_, ?_⟩
  · show w64 (bop64 105 a b - bop64 105 c e) % _ = _
    rw [wmod]
    omega
  · show w64 (w64 (P / 18446744073709551616 - Q / 18446744073709551616) - _) % _ = _
    have e3 := wmod (P / 18446744073709551616 - Q / 18446744073709551616)
    rw [wmod]
    generalize w64 (P / 18446744073709551616 - Q / 18446744073709551616) = Z at *
    split <;> omega
theorem W2.add {h1 l1 h2 l2 X Y : Int} (p : W2 h1 l1 X) (q : W2 h2 l2 Y) : W2 (bop64 97 (bop64 97 h1 h2) (cond (tst 3 (v882 (bop64 97 l1 l2) l1) 0) 0 1)) (bop64 97 l1 l2) (X + Y) := by
  obtain ⟨p0, p1, p2⟩ := p
  obtain ⟨q0, q1, q2⟩ := q
  rw [v882_is cn_bop64 p0]
  have e1 : bop64 97 l1 l2 % 18446744073709551616 = (l1 + l2) % 18446744073709551616 := wmod _
  have e2 : bop64 97 h1 h2 % 18446744073709551616 = (h1 + h2) % 18446744073709551616 := wmod _
  rw [e1]
  refine ⟨cn_bop64, ?_, ?_⟩
  · rw [e1]; omega
  · have e3 : ∀ z, bop64 97 (bop64 97 h1 h2) z % 18446744073709551616 = (bop64 97 h1 h2 + z) % 18446744073709551616 := fun z => wmod _
    rw [e3]
    clear e1 e3
    generalize bop64 97 h1 h2 = Z at *
    split <;> omega
theorem W2.mul {a b : Int} (ha : cn 1 a) (hb : cn 1 b) : W2 (v893 a b) (bop64 105 a b) (a * b) := by
  refine ⟨cn_bop64, wmod _, ?_⟩
  rw [v893_is ha hb]
theorem uN_or (x y : Int) : uN (bop64 129 x y) = uN x ||| uN y := by
  refine nat_tb (uN_lt _) (Nat.or_lt_two_pow (n := 64) (uN_lt _) (uN_lt _)) (fun i _ => ?_)
  rw [← tb_uN, tb_or, Nat.testBit_or, tb_uN, tb_uN]
theorem uN_shl (x : Int) {k : Nat} (hk : k < 64) : uN (sop64 121 x (k : Int)) = uN x * 2 ^ k % 18446744073709551616 := by
  refine nat_tb (uN_lt _) (Nat.mod_lt _ (by decide)) (fun i hi => ?_)
  rw [← tb_uN, tb_shl x hk hi, show (18446744073709551616 : Nat) = 2 ^ 64 from rfl, Nat.testBit_mod_two_pow, decide_eq_true hi, Bool.true_and, ← Nat.shiftLeft_eq, Nat.testBit_shiftLeft, tb_uN]
/-- the number by a power of two, as far as a long tells it -/
theorem W2.shr {hi lo X : Int} {t : Nat} (p : W2 hi lo X) (h0 : 0 < t) (ht : t < 64) : (bop64 129 (sop64 125 lo (t : Int)) (sop64 121 hi (bop32 100 64 (t : Int)))) % 18446744073709551616 = X / 2 ^ t % 18446744073709551616 := by
  obtain ⟨p0, p1, p2⟩ := p
  have e64 : bop32 100 64 (t : Int) = ((64 - t : Nat) : Int) := by rw [sub32 (by omega) (by omega)]; omega
  rw [e64]
  obtain ⟨a, ea⟩ : ∃ a, a = 2 ^ t := ⟨_, rfl⟩
  obtain ⟨b, eb⟩ : ∃ b, b = 2 ^ (64 - t) := ⟨_, rfl⟩
  have eab : a * b = 18446744073709551616 := by
    rw [ea, eb, ← Nat.pow_add, show t + (64 - t) = 64 by omega]
  have a0 : 0 < a := by rw [ea]; exact Nat.two_pow_pos t
  have b0 : 0 < b := by rw [eb]; exact Nat.two_pow_pos _
  obtain ⟨L, eL⟩ : ∃ L, L = uN lo := ⟨_, rfl⟩
  obtain ⟨H, eH⟩ : ∃ H, H = uN hi := ⟨_, rfl⟩
  have hL : L < 18446744073709551616 := by rw [eL]; exact uN_lt _
  have e1 : uN (bop64 129 (sop64 125 lo (t : Int)) (sop64 121 hi ((64 - t : Nat) : Int))) = (H % a) * b + L / a := by
    rw [uN_or, uN_shr _ ht, uN_shl _ (by omega), ← eL, ← eH, ← ea, ← eb]
    have s1 : H * b % 18446744073709551616 = b * (H % a) := by
      rw [← eab, Nat.mul_mod_mul_right, Nat.mul_comm]
    have s2 : L / a < b := Nat.div_lt_of_lt_mul (by rw [eab]; exact hL)
    rw [s1, Nat.or_comm, Nat.mul_comm (H % a)]
    rw [eb] at s2 ⊢
    exact (Nat.two_pow_add_eq_or_of_lt s2 _).symm
  have e2 : (bop64 129 (sop64 125 lo (t : Int)) (sop64 121 hi ((64 - t : Nat) : Int))) % 18446744073709551616 = (((H % a) * b + L / a : Nat) : Int) := by
    rw [← e1]; unfold uN; omega
  rw [e2]
  -- the number itself
  obtain ⟨K, eK⟩ : ∃ K : Int, X = (K * 18446744073709551616 + H) * 18446744073709551616 + L := by
    refine ⟨X / 18446744073709551616 / 18446744073709551616, ?_⟩
    have h1 : (L : Int) = X % 18446744073709551616 := by rw [eL, ← p1]; unfold uN; omega
    have h2 : (H : Int) = X / 18446744073709551616 % 18446744073709551616 := by rw [eH, ← p2]; unfold uN; omega
    omega
  have hm : (2 : Int) ^ t = (a : Int) := by rw [ea]; norm_cast
  have eM : (18446744073709551616 : Int) = (b : Int) * a := by
    rw [Int.mul_comm, ← Int.natCast_mul, eab]; rfl
  have e3 : X / 2 ^ t = (K * 18446744073709551616 + H) * b + ((L / a : Nat) : Int) := by
    rw [hm, eK, show (K * 18446744073709551616 + (H : Int)) * 18446744073709551616 + (L : Int) = (L : Int) + ((K * 18446744073709551616 + (H : Int)) * b) * a from by
      rw [Int.mul_assoc, ← eM]; omega, Int.add_mul_ediv_right _ _ (by omega)]
    rw [Int.natCast_ediv]; omega
  have e4 : (H : Int) = ((H / a : Nat) : Int) * a + ((H % a : Nat) : Int) := by
    have := Nat.div_add_mod H a
    rw [Nat.mul_comm] at this
    exact_mod_cast this.symm
  have e5 : X / 2 ^ t = (((H % a) * b + L / a : Nat) : Int) + (K * b + ((H / a : Nat) : Int)) * 18446744073709551616 := by
    rw [e3]
    have : (H : Int) * b = ((H / a : Nat) : Int) * 18446744073709551616 + ((H % a : Nat) : Int) * b := by
      rw [eM]
      generalize (H : Int) = Hz at *
      grind
    push_cast at *
    grind
  rw [e5, Int.add_mul_emod_self_right]
  have lt : (H % a) * b + L / a < 18446744073709551616 := by
    have s2 : L / a < b := Nat.div_lt_of_lt_mul (by rw [eab]; exact hL)
    have s3 : H % a < a := Nat.mod_lt _ a0
    calc (H % a) * b + L / a < (H % a) * b + b := by omega
      _ = (H % a + 1) * b := by rw [Nat.add_mul, Nat.one_mul]
      _ ≤ a * b := Nat.mul_le_mul_right _ s3
      _ = 18446744073709551616 := eab
  exact (Int.emod_eq_of_lt (by omega) (by omega)).symm
/-- how many bits of the inverse are right -/
def nwC (i : Nat) : Nat := [3, 6, 12, 24, 48, 64, 64].getD i 64
theorem nwC_s : ∀ i : Fin 6, nwC (i + 1) ≤ nwC i + nwC i ∧ nwC (i + 1) ≤ 64 := by decide
/-- one step of the inverse -/
theorem nw_step {q u : Int} {c c' : Nat} (e : ((2 ^ c : Nat) : Int) ∣ q * u - 1) (h1 : c' ≤ c + c) (h2 : c' ≤ 64) : ((2 ^ c' : Nat) : Int) ∣ q * bop64 105 u (bop64 101 2 (bop64 105 q u)) - 1 := by
  have w : ∀ x : Int, ∃ k : Int, w64 x = x + k * 18446744073709551616 := fun x => by
    refine ⟨(w64 x - x) / 18446744073709551616, ?_⟩
    have := wmod x
    omega
  obtain ⟨k1, e1⟩ := w (q * u)
  obtain ⟨k2, e2⟩ := w (2 - w64 (q * u))
  obtain ⟨k3, e3⟩ := w (u * w64 (2 - w64 (q * u)))
  show ((2 ^ c' : Nat) : Int) ∣ q * w64 (u * w64 (2 - w64 (q * u))) - 1
  have dM : ((2 ^ c' : Nat) : Int) ∣ 18446744073709551616 := by
    have : (2 ^ c' : Nat) ∣ 2 ^ 64 := Nat.pow_dvd_pow 2 h2
    rw [show (18446744073709551616 : Int) = ((2 ^ 64 : Nat) : Int) from rfl]
    exact Int.ofNat_dvd.mpr this
  have dS : ((2 ^ c' : Nat) : Int) ∣ (q * u - 1) * (q * u - 1) := by
    have d1 : ((2 ^ c' : Nat) : Int) ∣ ((2 ^ c : Nat) : Int) * ((2 ^ c : Nat) : Int) := by
      have : (2 ^ c' : Nat) ∣ 2 ^ c * 2 ^ c := by rw [← Nat.pow_add]; exact Nat.pow_dvd_pow 2 h1
      exact_mod_cast this
    exact Int.dvd_trans d1 (Int.mul_dvd_mul e e)
  have eq : q * w64 (u * w64 (2 - w64 (q * u))) - 1 = -((q * u - 1) * (q * u - 1)) + (q * u * (k2 - k1) + q * k3) * 18446744073709551616 := by
    rw [e3, e2, e1]; grind
  rw [eq]
  exact Int.dvd_add ((Int.dvd_neg).mpr dS) (Int.dvd_trans dM (Int.dvd_mul_left _ _))
end WIDE
