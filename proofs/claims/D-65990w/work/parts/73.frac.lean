/-! L3: fractions: numerator, denominator, kind, fault; longs that divide -/
abbrev Fq : Type := Int × Int × Int × Int
def flt (f : Int) : Fq := (0, 1, 0, f)
def mN (a b : Int) : Int := (if b < 0 then -a else a) / (Int.gcd a b : Int)
def mD (a b : Int) : Int := (if b < 0 then -b else b) / (Int.gcd a b : Int)
def mkF (a b k : Int) : Fq := if 1000000000 < mN a b ∨ mN a b < -1000000000 ∨ 1000000000 < mD a b then flt 3 else (mN a b, mD a b, k, 0)
def FOK (q : Fq) : Prop := (q.2.2.2 = 0 ∧ -1000000000 ≤ q.1 ∧ q.1 ≤ 1000000000 ∧ 1 ≤ q.2.1 ∧ q.2.1 ≤ 1000000000 ∧ -4 ≤ q.2.2.1 ∧ q.2.2.1 ≤ 4 ∧ Int.gcd q.1 q.2.1 = 1) ∨ ∃ f : Int, q = flt f ∧ 1 ≤ f ∧ f ≤ 4
theorem FOK.flt {f : Int} (h1 : 1 ≤ f) (h2 : f ≤ 4) : FOK (flt f) := Or.inr ⟨f, rfl, h1, h2⟩
theorem tbS {x : Int} (hx : cn 1 x) : tb x 63 = decide (x < 0) := by
  have e : (Int64.ofInt x).toBitVec.msb = decide ((Int64.ofInt x).toBitVec.toInt < 0) := BitVec.msb_eq_toInt
  have e2 : (Int64.ofInt x).toBitVec.toInt = x := (to64 x).trans (w64_id hx)
  rw [e2, BitVec.msb_eq_getLsbD_last] at e
  exact e
theorem abs64 {x : Int} (h1 : -9223372036854775807 ≤ x) (h2 : x < 9223372036854775808) : v887 x = (x.natAbs : Int) := by
  unfold v887
  rcases Int.lt_trichotomy x 0 with q | q | q
  · rw [cmp64_lt q, neg64 h1 h2]; show -x = _; omega
  · rw [q]; rfl
  · rw [cmp64_gt q]; show x = _; omega
theorem cmpL {x y : Int} : v881 x y = if x < y then -1 else if x = y then 0 else 1 := by
  unfold v881
  rcases Int.lt_trichotomy x y with q | q | q
  · rw [cmp64_lt q, if_pos q]; rfl
  · rw [q, cmp64_eq, if_neg (by omega), if_pos rfl]; rfl
  · rw [cmp64_gt q, if_neg (by omega), if_neg (by omega)]; rfl
theorem xor_neg {x y : Int} (hx : cn 1 x) (hy : cn 1 y) (h0 : 0 < y) : tst 3 (cmp64 (bop64 131 x y) 0) 0 = decide (0 ≤ x) := by
  have h1 : tb (bop64 131 x y) 63 = decide (x < 0) := by
    rw [tb_xor, tbS hx, tbS hy, decide_eq_false (show ¬ y < 0 by omega), Bool.xor_false]
  have hz : cn 1 (bop64 131 x y) := cn_bop64
  rw [tbS hz] at h1
  generalize bop64 131 x y = z at *
  rw [tst3]
  by_cases q : z < 0
  · rw [cmp64_lt q]
    rw [decide_eq_true q] at h1
    have := of_decide_eq_true h1.symm
    rw [decide_eq_false (show ¬ 0 ≤ x by omega)]; rfl
  · rw [decide_eq_false q] at h1
    have := of_decide_eq_false h1.symm
    rw [decide_eq_true (show 0 ≤ x by omega)]
    by_cases q2 : z = 0
    · rw [q2]; rfl
    · rw [cmp64_gt (show 0 < z by omega)]; rfl
theorem tdm {x y : Int} (h0 : 0 < y) : (0 ≤ x → x.tdiv y = x / y ∧ x.tmod y = x % y) ∧ (x < 0 → (x % y = 0 → x.tdiv y = x / y ∧ x.tmod y = 0) ∧ (¬ x % y = 0 → x.tdiv y = x / y + 1 ∧ x.tmod y = x % y - y ∧ ¬ x.tdiv y * y = x)) := by
  refine ⟨fun h => ⟨Int.tdiv_eq_ediv_of_nonneg h, Int.tmod_eq_emod_of_nonneg h⟩, fun h => ?_⟩
  have e1 : x.tdiv y = -((-x) / y) := by
    have : (-x).tdiv y = (-x) / y := Int.tdiv_eq_ediv_of_nonneg (by omega)
    rw [Int.neg_tdiv] at this; omega
  have e2 := Int.mul_tdiv_add_tmod x y
  have e3 := Int.mul_ediv_add_emod x y
  have e4 := Int.mul_ediv_add_emod (-x) y
  have e5 := Int.emod_nonneg x (show y ≠ 0 by omega)
  have e6 := Int.emod_lt_of_pos x h0
  have e7 := Int.emod_nonneg (-x) (show y ≠ 0 by omega)
  have e8 := Int.emod_lt_of_pos (-x) h0
  have key : ∀ q r : Int, y * q + r = x → 0 ≤ r → r < y → q = x / y := fun q r h1 h2 h3 => by
    have : (y * q + r) / y = q := by
      rw [Int.mul_add_ediv_left _ _ (by omega), Int.ediv_eq_zero_of_lt h2 h3, Int.add_zero]
    rw [← this, h1]
  refine ⟨fun hz => ?_, fun hz => ?_⟩
  · have e9 : (-x) % y = 0 := by
      refine Int.emod_eq_zero_of_dvd ?_
      exact Int.dvd_neg.mpr (Int.dvd_of_emod_eq_zero hz)
    have e10 : x.tdiv y = x / y := by
      rw [e1]
      refine key _ 0 ?_ (Int.le_refl _) h0
      rw [e9] at e4
      rw [Int.mul_neg]; omega
    refine ⟨e10, ?_⟩
    rw [e10] at e2; omega
  · have e9 : ¬ (-x) % y = 0 := fun z => hz (Int.emod_eq_zero_of_dvd (Int.dvd_neg.mp (Int.dvd_of_emod_eq_zero z)))
    have e10 : -((-x) / y) - 1 = x / y := by
      refine key _ (y - (-x) % y) ?_ (by omega) (by omega)
      rw [Int.mul_sub, Int.mul_neg]; omega
    have e11 : x.tdiv y = x / y + 1 := by omega
    rw [e11, Int.mul_add] at e2
    refine ⟨e11, by omega, fun z => ?_⟩
    rw [e11, Int.mul_comm, Int.mul_add] at z
    omega
theorem ldiv_b {x y : Int} (h1 : -4611686018427387904 ≤ x) (h2 : x ≤ 4611686018427387904) (h0 : 0 < y) : -4611686018427387904 ≤ x / y ∧ x / y ≤ 4611686018427387904 := by
  constructor
  · refine Int.le_ediv_of_mul_le h0 ?_
    have : (4611686018427387904 : Int) * 1 ≤ 4611686018427387904 * y := Int.mul_le_mul_of_nonneg_left (by omega) (by decide)
    omega
  · have e3 := Int.mul_ediv_add_emod x y
    have e5 := Int.emod_nonneg x (show y ≠ 0 by omega)
    by_cases q : x / y ≤ 0
    · omega
    · have : 1 * (x / y) ≤ y * (x / y) := Int.mul_le_mul_of_nonneg_right (by omega) (by omega)
      omega
theorem fdivL {x y : Int} (h1 : -4611686018427387904 ≤ x) (h2 : x ≤ 4611686018427387904) (h0 : 0 < y) (hy : y ≤ 4611686018427387904) : v889 x y = x / y := by
  obtain ⟨a, b⟩ := tdm (x := x) h0
  have bd := ldiv_b h1 h2 h0
  unfold v889
  rw [xor_neg ⟨by omega, by omega⟩ ⟨by omega, by omega⟩ h0]
  have w : bop64 109 x y = w64 (x.tdiv y) := rfl
  by_cases q : 0 ≤ x
  · rw [decide_eq_true q, w, (a q).1, w64_id ⟨by omega, by omega⟩]; rfl
  · rw [decide_eq_false q, w]
    obtain ⟨c, e⟩ := b (by omega)
    by_cases z : x % y = 0
    · have e3 := Int.mul_ediv_add_emod x y
      rw [(c z).1, w64_id ⟨by omega, by omega⟩, mul64 (by rw [Int.mul_comm]; omega) (by rw [Int.mul_comm]; omega), show x / y * y = x by rw [Int.mul_comm]; omega, cmp64_eq]; rfl
    · obtain ⟨e1, e2, e4⟩ := e z
      have e3 := Int.mul_tdiv_add_tmod x y
      have e5 := Int.emod_nonneg x (show y ≠ 0 by omega)
      have e6 := Int.emod_lt_of_pos x h0
      rw [w64_id ⟨by omega, by omega⟩, mul64 (by rw [Int.mul_comm]; omega) (by rw [Int.mul_comm]; omega), sub64 (by omega) (by omega), e1]
      rw [e1] at e4
      rw [tst0, decide_eq_false (fun k => e4 (cmp64_z.mp k))]
      show x / y + 1 - 1 = x / y
      omega
theorem fmodL {x y : Int} (h1 : -4611686018427387904 ≤ x) (h2 : x ≤ 4611686018427387904) (h0 : 0 < y) (hy : y ≤ 4611686018427387904) : v890 x y = x % y := by
  obtain ⟨a, b⟩ := tdm (x := x) h0
  have e5 := Int.emod_nonneg x (show y ≠ 0 by omega)
  have e6 := Int.emod_lt_of_pos x h0
  unfold v890
  rw [xor_neg ⟨by omega, by omega⟩ ⟨by omega, by omega⟩ h0]
  have w : bop64 113 x y = w64 (x.tmod y) := rfl
  by_cases q : 0 ≤ x
  · rw [decide_eq_true q, w, (a q).2, w64_id ⟨by omega, by omega⟩]; rfl
  · rw [decide_eq_false q, w]
    obtain ⟨c, e⟩ := b (by omega)
    by_cases z : x % y = 0
    · rw [(c z).2, z]; rfl
    · rw [(e z).2.1, w64_id ⟨by omega, by omega⟩, tst0, decide_eq_false (fun k => by have := cmp64_z.mp k; omega), add64 (by omega) (by omega)]
      show x % y - y + y = _
      omega
theorem sgnL {x : Int} (hx : cn 1 x) (h1 : -9223372036854775807 ≤ x) : v885 x = if x < 0 then -1 else if x = 0 then 0 else 1 := by
  have hx' : -9223372036854775808 ≤ x ∧ x < 9223372036854775808 := hx
  have hn : cn 1 (-x) := ⟨by omega, by omega⟩
  unfold v885
  rw [neg64 h1 hx'.2]
  have e1 : sop64 123 x 63 = if x < 0 then -1 else 0 := by
    refine tb_ext (sop64_cn ..) ?_ (fun i hi => ?_)
    · split <;> exact ⟨by decide, by decide⟩
    · rw [show sop64 123 x 63 = sop64 123 x ((63 : Nat) : Int) from rfl, tb_sar _ (by decide) hi]
      have : (if 63 + i < 64 then tb x (63 + i) else tb x 63) = tb x 63 := by
        by_cases q : i = 0
        · rw [q]; rfl
        · rw [if_neg (by omega)]
      rw [this, tbS hx]
      split
      · next q => rw [decide_eq_true q, tb_m1 hi]
      · next q => rw [decide_eq_false q, tb_0]
  have e2 : sop64 125 (-x) 63 = if 0 < x then 1 else 0 := by
    refine tb_ext (sop64_cn ..) ?_ (fun i hi => ?_)
    · split <;> exact ⟨by decide, by decide⟩
    · rw [show sop64 125 (-x) 63 = sop64 125 (-x) ((63 : Nat) : Int) from rfl, tb_shr _ (by decide)]
      by_cases q : i = 0
      · rw [q, Nat.add_zero, tbS hn]
        split
        · next k => rw [decide_eq_true (by omega)]; decide +kernel
        · next k => rw [decide_eq_false (by omega)]; decide +kernel
      · rw [tb_big (by omega)]
        split
        · have := one_bit (k := 0) (i := i) (by decide) hi
          rw [decide_eq_false q] at this
          rw [show sop64 121 1 ((0 : Nat) : Int) = 1 by decide +kernel] at this
          exact this.symm
        · rw [tb_0]
  rw [e1, e2]
  rcases Int.lt_trichotomy x 0 with q | q | q
  · rw [if_pos q, if_neg (show ¬ 0 < x by omega), if_pos q]; decide +kernel
  · rw [if_neg (show ¬ x < 0 by omega), if_neg (show ¬ 0 < x by omega), if_neg (show ¬ x < 0 by omega), if_pos q]; decide +kernel
  · rw [if_neg (show ¬ x < 0 by omega), if_pos q, if_neg (show ¬ x < 0 by omega), if_neg (show ¬ x = 0 by omega)]; decide +kernel
