/-! L1: values and words of the abstract machine -/
abbrev AV : Type := Nat × Int
def w32 (x : Int) : Int := x.bmod 4294967296
def w64 (x : Int) : Int := x.bmod 18446744073709551616
/-- the machine's value of a tagged number: 0 an int, 1 a long, else a reference (0: null, a + 1: the cell a) -/
def vv (t : Nat) (x : Int) : Value := match t with
  | 0 => .int (Int32.ofInt x)
  | 1 => .long (Int64.ofInt x)
  | _ => if x = 0 then .null else .ref (x.toNat - 1)
def vp (q : AV) : Value := vv q.1 q.2
def cn (t : Nat) (x : Int) : Prop := match t with
  | 0 => -2147483648 ≤ x ∧ x < 2147483648
  | 1 => -9223372036854775808 ≤ x ∧ x < 9223372036854775808
  | _ => 0 ≤ x
theorem w32_cn (x : Int) : cn 0 (w32 x) := by
  unfold w32 cn
  have h1 := @Int.le_bmod x 4294967296 (by decide)
  have h2 := @Int.bmod_lt x 4294967296 (by decide)
  constructor <;> omega
theorem w64_cn (x : Int) : cn 1 (w64 x) := by
  unfold w64 cn
  have h1 := @Int.le_bmod x 18446744073709551616 (by decide)
  have h2 := @Int.bmod_lt x 18446744073709551616 (by decide)
  constructor <;> omega
theorem w32_id {x : Int} (h : cn 0 x) : w32 x = x := by
  have h : -2147483648 ≤ x ∧ x < 2147483648 := h
  exact Int.bmod_eq_of_le (by omega) (by omega)
theorem w64_id {x : Int} (h : cn 1 x) : w64 x = x := by
  have h : -9223372036854775808 ≤ x ∧ x < 9223372036854775808 := h
  exact Int.bmod_eq_of_le (by omega) (by omega)
theorem of32 (x : Int) : Int32.ofInt (w32 x) = Int32.ofInt x := by
  apply Int32.toInt_inj.mp
  rw [Int32.toInt_ofInt, Int32.toInt_ofInt]
  show (x.bmod 4294967296).bmod 4294967296 = x.bmod 4294967296
  exact Int.bmod_bmod
theorem of64 (x : Int) : Int64.ofInt (w64 x) = Int64.ofInt x := by
  apply Int64.toInt_inj.mp
  rw [Int64.toInt_ofInt, Int64.toInt_ofInt]
  show (x.bmod 18446744073709551616).bmod 18446744073709551616 = x.bmod 18446744073709551616
  exact Int.bmod_bmod
theorem to32 (x : Int) : (Int32.ofInt x).toInt = w32 x := Int32.toInt_ofInt ..
theorem to64 (x : Int) : (Int64.ofInt x).toInt = w64 x := Int64.toInt_ofInt ..
theorem of_to32 (i : Int32) : Int32.ofInt i.toInt = i := Int32.ofInt_toInt i
theorem of_to64 (i : Int64) : Int64.ofInt i.toInt = i := Int64.ofInt_toInt i
theorem cn_to32 (i : Int32) : cn 0 i.toInt := by
  have := w32_cn i.toInt
  rwa [← to32, of_to32] at this
theorem cn_to64 (i : Int64) : cn 1 i.toInt := by
  have := w64_cn i.toInt
  rwa [← to64, of_to64] at this
theorem lt32 {x y : Int} (hx : cn 0 x) (hy : cn 0 y) : (Int32.ofInt x < Int32.ofInt y) ↔ x < y := by
  rw [Int32.lt_iff_toInt_lt, to32, to32, w32_id hx, w32_id hy]
theorem eq32 {x y : Int} (hx : cn 0 x) (hy : cn 0 y) : (Int32.ofInt x = Int32.ofInt y) ↔ x = y := by
  constructor
  · intro h
    have := congrArg Int32.toInt h
    rwa [to32, to32, w32_id hx, w32_id hy] at this
  · intro h; rw [h]
theorem le32 {x y : Int} (hx : cn 0 x) (hy : cn 0 y) : (Int32.ofInt x ≤ Int32.ofInt y) ↔ x ≤ y := by
  rw [Int32.le_iff_toInt_le, to32, to32, w32_id hx, w32_id hy]
theorem lt64 {x y : Int} (hx : cn 1 x) (hy : cn 1 y) : (Int64.ofInt x < Int64.ofInt y) ↔ x < y := by
  rw [Int64.lt_iff_toInt_lt, to64, to64, w64_id hx, w64_id hy]
theorem eq64 {x y : Int} (hx : cn 1 x) (hy : cn 1 y) : (Int64.ofInt x = Int64.ofInt y) ↔ x = y := by
  constructor
  · intro h
    have := congrArg Int64.toInt h
    rwa [to64, to64, w64_id hx, w64_id hy] at this
  · intro h; rw [h]
/-- what two ints come to; by the opcode -/
def bop32 (o : Nat) (x y : Int) : Int := match o with
  | 96 => w32 (x + y)
  | 100 => w32 (x - y)
  | 104 => w32 (x * y)
  | 108 => w32 (x.tdiv y)
  | 112 => w32 (x.tmod y)
  | 126 => (Int32.ofInt x &&& Int32.ofInt y).toInt
  | 128 => (Int32.ofInt x ||| Int32.ofInt y).toInt
  | 130 => (Int32.ofInt x ^^^ Int32.ofInt y).toInt
  | 120 => (Int32.ofInt x <<< (Int32.ofInt y &&& 31)).toInt
  | 122 => (Int32.ofInt x >>> (Int32.ofInt y &&& 31)).toInt
  | _ => (((Int32.ofInt x).toUInt32 >>> ((Int32.ofInt y).toUInt32 &&& Int32.toUInt32 31)).toInt32).toInt
def bop64 (o : Nat) (x y : Int) : Int := match o with
  | 97 => w64 (x + y)
  | 101 => w64 (x - y)
  | 105 => w64 (x * y)
  | 109 => w64 (x.tdiv y)
  | 113 => w64 (x.tmod y)
  | 127 => (Int64.ofInt x &&& Int64.ofInt y).toInt
  | 129 => (Int64.ofInt x ||| Int64.ofInt y).toInt
  | _ => (Int64.ofInt x ^^^ Int64.ofInt y).toInt
def sop64 (o : Nat) (x y : Int) : Int := match o with
  | 121 => (Int64.ofInt x <<< ((Int32.ofInt y).toInt64 &&& 63)).toInt
  | 123 => (Int64.ofInt x >>> ((Int32.ofInt y).toInt64 &&& 63)).toInt
  | _ => (((Int64.ofInt x).toUInt64 >>> ((Int32.ofInt y).toInt64.toUInt64 &&& Int64.toUInt64 63)).toInt64).toInt
def cmp64 (x y : Int) : Int := if x < y then -1 else if x = y then 0 else 1
theorem bop32_cn (o : Nat) (x y : Int) : cn 0 (bop32 o x y) := by
  unfold bop32
  split <;> first | exact w32_cn _ | exact cn_to32 _
theorem bop64_cn (o : Nat) (x y : Int) : cn 1 (bop64 o x y) := by
  unfold bop64
  split <;> first | exact w64_cn _ | exact cn_to64 _
theorem sop64_cn (o : Nat) (x y : Int) : cn 1 (sop64 o x y) := by
  unfold sop64
  split <;> exact cn_to64 _
theorem cmp64_cn (x y : Int) : cn 0 (cmp64 x y) := by
  show -2147483648 ≤ cmp64 x y ∧ cmp64 x y < 2147483648
  unfold cmp64
  split
  · omega
  · split <;> omega
