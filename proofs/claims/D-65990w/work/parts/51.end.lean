/-! L3: numberOfLeadingZeros; Rows.endCube, Rows.end -/
theorem shu_c32 : ∀ k : Fin 32, ((Int32.ofInt (k : Nat)).toUInt32 &&& Int32.toUInt32 31) = UInt32.ofNat k := by decide +kernel
theorem ushrN {x k : Nat} (hx : x < 2147483648) (hk : k < 32) : bop32 124 (x : Int) (k : Int) = ((x / 2 ^ k : Nat) : Int) := by
  show (((Int32.ofInt (x : Int)).toUInt32 >>> ((Int32.ofInt (k : Int)).toUInt32 &&& Int32.toUInt32 31)).toInt32).toInt = _
  rw [shu_c32 ⟨k, hk⟩]
  show ((Int32.ofInt (x : Int)).toUInt32 >>> UInt32.ofNat k).toBitVec.toInt = _
  rw [UInt32.toBitVec_shiftRight]
  have hm : ((UInt32.ofNat k).toBitVec % 32).toNat = k := by
    have : ∀ j : Fin 32, ((UInt32.ofNat (j : Nat)).toBitVec % 32).toNat = j := by decide +kernel
    exact this ⟨k, hk⟩
  have hb : ((Int32.ofInt (x : Int)).toUInt32).toBitVec.toNat = x := by
    show (BitVec.ofInt 32 (x : Int)).toNat = x
    rw [BitVec.toNat_ofInt]; omega
  have e : (((Int32.ofInt (x : Int)).toUInt32).toBitVec >>> ((UInt32.ofNat k).toBitVec % 32)).toNat = x / 2 ^ k := by
    rw [BitVec.ushiftRight_eq', BitVec.toNat_ushiftRight, hm, hb, Nat.shiftRight_eq_div_pow]
  have h1 : x / 2 ^ k ≤ x := Nat.div_le_self _ _
  rw [BitVec.toInt_eq_toNat_of_lt (by rw [e]; omega), e]
def nzS (b sh : Int) (p : Int × Int) : Int × Int := (cond (tst 2 p.1 b) p.1 (bop32 124 p.1 sh), cond (tst 2 p.1 b) p.2 (w32 (p.2 + (-sh))))
/-- x shifted by s so far: i = x / 2 ^ s, n = 31 - s, i below a bound -/
def NzI (x m : Nat) (p : Int × Int) : Prop := ∃ s : Nat, s + m ≤ 32 ∧ p.1 = ((x / 2 ^ s : Nat) : Int) ∧ p.2 = 31 - (s : Int) ∧ x / 2 ^ s < 2 ^ m ∧ 0 < x / 2 ^ s
theorem NzI.step {x k : Nat} {p : Int × Int} (hx : x < 2147483648) (hk : k < 32) (h : NzI x (2 * k) p) : NzI x k (nzS ((2 ^ k : Nat) : Int) (k : Int) p) := by
  obtain ⟨s, h1, h2, h3, h4, h5⟩ := h
  unfold nzS
  rw [h2, tst2]
  have hle : x / 2 ^ s ≤ x := Nat.div_le_self _ _
  by_cases q : x / 2 ^ s < 2 ^ k
  · have : ((x / 2 ^ s : Nat) : Int) < ((2 ^ k : Nat) : Int) := by omega
    simp only [this, decide_true, cond_true]
    exact ⟨s, by omega, rfl, h3, q, h5⟩
  · have : ¬ ((x / 2 ^ s : Nat) : Int) < ((2 ^ k : Nat) : Int) := by omega
    simp only [this, decide_false, cond_false]
    refine ⟨s + k, by omega, ?_, ?_, ?_, ?_⟩
    · rw [ushrN (by omega) hk, Nat.div_div_eq_div_mul, ← Nat.pow_add]
    · dsimp only
      rw [h3, inc32 (by omega) (by omega)]; omega
    · rw [Nat.pow_add, ← Nat.div_div_eq_div_mul]
      refine Nat.div_lt_of_lt_mul (Nat.lt_of_lt_of_le h4 ?_)
      rw [← Nat.pow_add]
      exact Nat.pow_le_pow_right (by decide) (by omega)
    · rw [Nat.pow_add, ← Nat.div_div_eq_div_mul]
      exact Nat.div_pos (by omega) (Nat.two_pow_pos _)
theorem nlz32 {x : Nat} (h0 : 0 < x) (hx : x < 2147483648) : ∃ k : Nat, k ≤ 30 ∧ v878 (x : Int) = 31 - (k : Int) ∧ 2 ^ k ≤ x ∧ x < 2 ^ (k + 1) := by
  have s0 : NzI x 32 ((x : Int), 31) := ⟨0, by omega, by simp, rfl, by simp; omega, by simp; omega⟩
  have s1 := NzI.step (k := 16) hx (by decide) s0
  have s2 := NzI.step (k := 8) hx (by decide) s1
  have s3 := NzI.step (k := 4) hx (by decide) s2
  have s4 := NzI.step (k := 2) hx (by decide) s3
  have e : v878 (x : Int) = cond (tst 4 (x : Int) 0) (bop32 100 (nzS 4 2 (nzS 16 4 (nzS 256 8 (nzS 65536 16 ((x : Int), 31))))).2 (bop32 124 (nzS 4 2 (nzS 16 4 (nzS 256 8 (nzS 65536 16 ((x : Int), 31))))).1 1)) (cond (tst 1 (x : Int) 0) 0 32) := by simp only [v878, nzS]
  have s4 : NzI x 2 (nzS 4 2 (nzS 16 4 (nzS 256 8 (nzS 65536 16 ((x : Int), 31))))) := s4
  rw [e, tst4, decide_eq_true (by omega), cond_true]
  generalize nzS 4 2 (nzS 16 4 (nzS 256 8 (nzS 65536 16 ((x : Int), 31)))) = p at *
  obtain ⟨s, h1, h2, h3, h4, h5⟩ := s4
  have h2p : 0 < 2 ^ s := Nat.two_pow_pos s
  have d1 := Nat.div_add_mod x (2 ^ s)
  have d2 := Nat.mod_lt x h2p
  rw [h2, h3, show bop32 124 ((x / 2 ^ s : Nat) : Int) 1 = ((x / 2 ^ s / 2 ^ 1 : Nat) : Int) from ushrN (k := 1) (by omega) (by decide), sub32 (by omega) (by omega)]
  have h4 : x / 2 ^ s < 4 := h4
  have e1 : 2 ^ (s + 1) = 2 * 2 ^ s := by rw [Nat.pow_succ]; omega
  have e2 : 2 ^ (s + 2) = 4 * 2 ^ s := by rw [Nat.pow_succ, Nat.pow_succ]; omega
  by_cases q : x / 2 ^ s = 1
  · refine ⟨s, by omega, by rw [q]; simp, ?_, ?_⟩
    · rw [q] at d1; omega
    · rw [q] at d1; omega
  · have q2 : x / 2 ^ s = 2 ∨ x / 2 ^ s = 3 := by omega
    have hs1 : s + 1 < 31 := by
      apply Classical.byContradiction
      intro hq
      have h9 : 2 ^ 31 ≤ 2 ^ (s + 1) := Nat.pow_le_pow_right (by decide) (by omega)
      have h10 : 2 ^ s * 2 ≤ 2 ^ s * (x / 2 ^ s) := Nat.mul_le_mul_left _ (by omega)
      rw [e1] at h9
      have h11 : (2 : Nat) ^ 31 = 2147483648 := by decide
      omega
    refine ⟨s + 1, by omega, by rcases q2 with q2 | q2 <;> rw [q2] <;> omega, ?_, ?_⟩
    · rcases q2 with q2 | q2 <;> rw [q2] at d1 <;> omega
    · rw [e2]; rcases q2 with q2 | q2 <;> rw [q2] at d1 <;> omega
/-- v with its highest bit k -/
def Hig (v : Int) (k : Nat) : Prop := k < 64 ∧ tb v k = true ∧ ∀ j, k < j → tb v j = false
theorem hig_of {N k : Nat} (h1 : 2 ^ k ≤ N) (h2 : N < 2 ^ (k + 1)) : N.testBit k = true ∧ ∀ j, k < j → N.testBit j = false := by
  constructor
  · have e : N = 2 ^ k * 1 + (N - 2 ^ k) := by omega
    rw [Nat.pow_succ] at h2
    rw [e, Nat.testBit_two_pow_mul_add _ (by omega)]
    simp
  · intro j hj
    exact Nat.testBit_lt_two_pow (Nat.lt_of_lt_of_le h2 (Nat.pow_le_pow_right (by decide) (by omega)))
theorem w32_hi {N : Nat} (h1 : 2147483648 ≤ N) (h2 : N < 4294967296) : w32 (N : Int) = (N : Int) - 4294967296 := by
  have c := w32_cn (N : Int)
  have c1 := c.1; have c2 := c.2
  have e : uI (w32 (N : Int)) = uI (N : Int) := uI_w _
  unfold uI at e
  clear c
  generalize w32 (N : Int) = w at *
  omega
theorem uop3 (x : Int) : uop 3 x = w32 x := rfl
theorem w32_nat {N : Nat} (h : N < 2147483648) : w32 (N : Int) = (N : Int) := by
  have h1 : -2147483648 ≤ (N : Int) := by omega
  have h2 : (N : Int) < 2147483648 := by omega
  exact w32_id (x := (N : Int)) (And.intro h1 h2)
theorem uN_nat {N : Nat} (h : N < 9223372036854775808) : uN (N : Int) = N := by unfold uN; omega
theorem hig_N {N : Nat} (hN : N < 9223372036854775808) {k : Nat} (a : 2 ^ k ≤ N) (b : N < 2 ^ (k + 1)) (c : k < 64) : Hig (N : Int) k := by
  obtain ⟨a1, a2⟩ := hig_of a b
  exact ⟨c, by rw [tb_uN, uN_nat hN]; exact a1, fun j hj => by rw [tb_uN, uN_nat hN]; exact a2 j hj⟩
theorem nlz_a0 {N : Nat} (h : N < 9223372036854775808) : sop64 125 (N : Int) 32 = ((N / 4294967296 : Nat) : Int) := by
  have sh : uN (sop64 125 (N : Int) 32) = N / 4294967296 := by
    rw [show uN (sop64 125 (N : Int) 32) = uN (N : Int) / 2 ^ 32 from uN_shr _ (k := 32) (by decide), uN_nat h, show (2 : Nat) ^ 32 = 4294967296 by decide]
  have c := sop64_cn 125 (N : Int) 32
  have c1 := c.1; have c2 := c.2
  clear c
  unfold uN at sh
  generalize sop64 125 (N : Int) 32 = w at *
  have hq : N / 4294967296 < 9223372036854775808 := Nat.lt_of_le_of_lt (Nat.div_le_self _ _) h
  generalize N / 4294967296 = H at *
  omega
theorem nlz_a {N : Nat} (h : N / 4294967296 < 1048576) (h2 : N < 9223372036854775808) : uop 3 (sop64 125 (N : Int) 32) = ((N / 4294967296 : Nat) : Int) := by
  rw [nlz_a0 h2, uop3]
  exact w32_nat (Nat.lt_of_lt_of_le h (Nat.le_of_ble_eq_true rfl))
theorem v878_neg {x : Int} (h : x < 0) : v878 x = 0 := by
  unfold v878
  rw [show tst 4 x 0 = false by rw [tst4]; exact decide_eq_false (by omega), cond_false, show tst 1 x 0 = true by rw [tst1, decide_eq_false (by omega)]; rfl, cond_true]
theorem nlz_b {N : Nat} (h0 : 0 < N) (hN : N < 4294967296) : ∃ k : Nat, Hig (N : Int) k ∧ bop32 96 32 (v878 (uop 3 (N : Int))) = 63 - (k : Int) := by
  have hN2 : N < 9223372036854775808 := Nat.lt_trans hN (Nat.le_of_ble_eq_true rfl)
  by_cases q2 : N < 2147483648
  · have el : uop 3 (N : Int) = (N : Int) := (uop3 _).trans (w32_nat q2)
    obtain ⟨k, k1, k2, k3, k4⟩ := nlz32 h0 q2
    refine ⟨k, hig_N hN2 k3 k4 (by omega), ?_⟩
    rw [el, k2, add32 (by omega) (by omega)]; omega
  · have el : uop 3 (N : Int) = (N : Int) - 4294967296 := (uop3 _).trans (w32_hi (Nat.le_of_not_lt q2) hN)
    refine ⟨31, hig_N hN2 (show 2 ^ 31 ≤ N by rw [show (2 : Nat) ^ 31 = 2147483648 by decide]; exact Nat.le_of_not_lt q2) (show N < 2 ^ 32 by rw [show (2 : Nat) ^ 32 = 4294967296 by decide]; exact hN) (by decide), ?_⟩
    rw [el, v878_neg (by omega)]; rfl
theorem nlz_c {N H : Nat} (h2 : N < 9223372036854775808) (e : H = N / 4294967296) (h : H < 1048576) (h0 : 0 < H) : ∃ k : Nat, Hig (N : Int) k ∧ v878 (H : Int) = 63 - (k : Int) := by
  obtain ⟨k, k1, k2, k3, k4⟩ := nlz32 h0 (Nat.lt_trans h (Nat.le_of_ble_eq_true rfl))
  have p1 : 2 ^ (k + 32) = 2 ^ k * 4294967296 := by rw [Nat.pow_add, show (2 : Nat) ^ 32 = 4294967296 by decide]
  have p2 : 2 ^ (k + 32 + 1) = 2 ^ (k + 1) * 4294967296 := by rw [show k + 32 + 1 = k + 1 + 32 by omega, Nat.pow_add, show (2 : Nat) ^ 32 = 4294967296 by decide]
  refine ⟨k + 32, hig_N h2 ?_ ?_ (by omega), ?_⟩
  · rw [p1]; exact (Nat.le_div_iff_mul_le (Nat.le_of_ble_eq_true rfl)).mp (by rw [← e]; exact k3)
  · rw [p2]; exact (Nat.div_lt_iff_lt_mul (Nat.le_of_ble_eq_true rfl)).mp (by rw [← e]; exact k4)
  · rw [k2]; omega
/-- a long of at most 52 bits -/
theorem nlz_is {N : Nat} (h0 : 0 < N) (h1 : N / 4294967296 < 1048576) (h2 : N < 9223372036854775808) : ∃ k : Nat, Hig (N : Int) k ∧ v883 (N : Int) = 63 - (k : Int) := by
  have hv : v883 (N : Int) = cond (tst 1 (uop 3 (sop64 125 (N : Int) 32)) 0) (v878 (uop 3 (sop64 125 (N : Int) 32))) (bop32 96 32 (v878 (uop 3 (N : Int)))) := by unfold v883; rfl
  rw [hv, nlz_a h1 h2]
  by_cases q : N / 4294967296 = 0
  · have hN : N < 4294967296 := by rcases Nat.div_eq_zero_iff.mp q with h | h
                                   · exact absurd h (by decide)
                                   · exact h
    rw [q, show tst 1 ((0 : Nat) : Int) 0 = false from rfl, cond_false]
    exact nlz_b h0 hN
  · generalize e : N / 4294967296 = H at *
    rw [show tst 1 (H : Int) 0 = true by rw [tst1, decide_eq_false (by omega)]; rfl, cond_true]
    exact nlz_c h2 e.symm h1 (by omega)
/-- the best so far (-1: none yet) -/
def Bst (gr : Bool) (P : Int → Prop) (v : Int) : Prop := (v = -1 ∧ ∀ c, ¬ P c) ∨ (0 ≤ v ∧ P v ∧ ∀ c, P c → if gr then c ≤ v else v ≤ c)
theorem Bst.congr {gr : Bool} {P Q : Int → Prop} {v : Int} (b : Bst gr P v) (e : ∀ c, P c ↔ Q c) : Bst gr Q v := by
  unfold Bst at *
  rcases b with ⟨b1, b2⟩ | ⟨b1, b2, b3⟩
  · exact Or.inl ⟨b1, fun c hc => b2 c ((e c).mpr hc)⟩
  · exact Or.inr ⟨b1, (e v).mp b2, fun c hc => b3 c ((e c).mpr hc)⟩
theorem Bst.add {gr : Bool} {P : Int → Prop} {v c : Int} (b : Bst gr P v) (hc : 0 ≤ c) : Bst gr (fun q => P q ∨ q = c) (cond (tst 3 v 0) (cond (tst 0 (if gr then 1 else 0) 0) (v892 v c) (v891 v c)) c) := by
  rcases b with ⟨rfl, b2⟩ | ⟨b1, b2, b3⟩
  · rw [tst3]
    refine Or.inr ⟨hc, Or.inr rfl, fun q hq => ?_⟩
    rcases hq with hq | rfl
    · exact absurd hq (b2 q)
    · cases gr <;> simp
  · rw [tst3, decide_eq_false (by omega)]
    simp only [Bool.not_false, cond_true]
    cases gr
    · show Bst false _ (v892 v c)
      unfold v892
      rw [tst4]
      by_cases q : c < v
      · simp only [q, decide_true, cond_true]
        refine Or.inr ⟨hc, Or.inr rfl, fun r hr => ?_⟩
        rcases hr with hr | rfl
        · have := b3 r hr; simp at this ⊢; omega
        · simp
      · simp only [q, decide_false, cond_false]
        refine Or.inr ⟨b1, Or.inl b2, fun r hr => ?_⟩
        rcases hr with hr | rfl
        · exact b3 r hr
        · simp; omega
    · show Bst true _ (v891 v c)
      unfold v891
      rw [tst2]
      by_cases q : v < c
      · simp only [q, decide_true, cond_true]
        refine Or.inr ⟨hc, Or.inr rfl, fun r hr => ?_⟩
        rcases hr with hr | rfl
        · have := b3 r hr; simp at this ⊢; omega
        · simp
      · simp only [q, decide_false, cond_false]
        refine Or.inr ⟨b1, Or.inl b2, fun r hr => ?_⟩
        rcases hr with hr | rfl
        · exact b3 r hr
        · simp; omega
section ENDC
variable {gv : Nat → Int} {B n d a : Nat} {h : AH} {S : Nat → Bool}
/-- rows of sort t ahead of (z, y) that have a grain; their coordinate -/
def ecP (n : Nat) (S : Nat → Bool) (t ax z y : Nat) (c : Int) : Prop := ∃ z' y' x', z' < n ∧ y' < n ∧ x' < n ∧ (z' < z ∨ z' = z ∧ y' < y) ∧ S (gI n x' y' z' t) = true ∧ c = if ax = 1 then (y' : Int) else (z' : Int)
def ecA (n : Nat) (S : Nat → Bool) (t z y x : Nat) : Prop := x < n ∧ ∃ z' y', z' < n ∧ y' < n ∧ (z' < z ∨ z' = z ∧ y' < y) ∧ S (gI n x y' z' t) = true
/-- a grain of sort t at a cube's coordinate -/
def ecC (n : Nat) (S : Nat → Bool) (t ax : Nat) (c : Int) : Prop := ∃ z y x, z < n ∧ y < n ∧ x < n ∧ S (gI n x y z t) = true ∧ c = if ax = 0 then (x : Int) else if ax = 1 then (y : Int) else (z : Int)
set_option maxHeartbeats 2000000 in
theorem c_endCube (l : LX B n h) (hd : 12 ≤ d) (hn0 : 0 < n) (hn : n ≤ 52) (sa : SG n h a S) {t ax : Nat} (ht : t < 24) (hax : ax < 3) {gr : Bool} :
    Vt 0 (cll PP (ev PP (gsF gv) B) d 341 [(2, rf (B + 51)), (2, rf a), (0, (t : Int)), (0, (ax : Int)), (0, (if gr then 1 else 0))] h) (fun v h' => h' = h ∧ Bst gr (ecC n S t ax) v) := by
  have ka := sa.1
  have hN := rows_le hn
  refine Vt.into (D := 11) hd (Nat.le_of_ble_eq_true rfl) rfl (fun d hd => ?_)
  refine Ends.eq (b341_0 l (by omega)) ?_
  refine lp (n) (fun z L q => ∃ al, ∃ bs, ∃ u9 u10 u11 u12 : AV, L = [(2, rf (B + 51)), (2, (rf a)), (0, ((t : Int))), (0, ((ax : Int))), (0, (if gr then 1 else 0)), (1, al), ((9, 0)), (0, bs), (0, ((z : Int))), u9, u10, u11, u12] ∧ LX B n q ∧ z ≤ n ∧ q = h ∧ cn 1 al ∧ (∀ x, x < 64 → (tb al x = true ↔ ecA n S t z 0 x)) ∧ Bst gr (ecP n S t ax z 0) bs) ?_ ?_ (0) ⟨0, -1, _, _, _, _, rfl, (by (repeat' first | assumption | refine LX.setF _ _ ?_ (by decide +kernel) | refine LX.setS ?_ rfl | refine LX.setA ?_ (by assumption))), by omega, ?_⟩
  · rintro z _ q hz ⟨al, bs, uq0, uq1, uq2, uq3, rfl, lq, hzN, ⟨rfl, c1, a1, p1⟩⟩ ihz
    refine Ends.eq (b341_9 (n := n) (by (repeat' first | assumption | refine LX.setF _ _ ?_ (by decide +kernel) | refine LX.setS ?_ rfl | refine LX.setA ?_ (by first | assumption | omega))) (by first | assumption | omega)) ?_
    refine Ends.b3 (fun _ => by omega) (fun _ => ?_)
    refine lp (n) (fun y L q2 => ∃ al2, ∃ bs2, ∃ u10 u11 u12 : AV, L = [(2, rf (B + 51)), (2, (rf a)), (0, ((t : Int))), (0, ((ax : Int))), (0, (if gr then 1 else 0)), (1, al2), ((9, 0)), (0, bs2), (0, ((z : Int))), (0, ((y : Int))), u10, u11, u12] ∧ LX B n q2 ∧ y ≤ n ∧ q2 = q ∧ cn 1 al2 ∧ (∀ x, x < 64 → (tb al2 x = true ↔ ecA n S t z y x)) ∧ Bst gr (ecP n S t ax z y) bs2) ?_ ?_ (0) ⟨al, bs, _, _, _, rfl, (by (repeat' first | assumption | refine LX.setF _ _ ?_ (by decide +kernel) | refine LX.setS ?_ rfl | refine LX.setA ?_ (by assumption))), by omega, ?_⟩
    · rintro y _ q2 hy ⟨al2, bs2, uq20, uq21, uq22, rfl, lq2, hyN, ⟨rfl, c2, a2, p2⟩⟩ ihy
      have hr := rw3_lt ht hz hy
      have hrow := sa.2 (rw3 n t z y) hr
      have hbit : ∀ x, x < 64 → tb (hv q2 a (rw3 n t z y)) x = (decide (x < n) && S (gI n x y z t)) := fun x hx => by rw [hrow.2 x hx, onK_at hz hy]
      refine Ends.eq (b341_21 (n := n) (by (repeat' first | assumption | refine LX.setF _ _ ?_ (by decide +kernel) | refine LX.setS ?_ rfl | refine LX.setA ?_ (by first | assumption | omega))) (by first | assumption | omega)) ?_
      simp only [ad_rf, ka, row_eq hn ht hz hy, tn]
      refine Ends.b3 (fun _ => by omega) (fun _ => Ends.g ⟨rf_pos _, by trivial, by omega, by omega⟩ (Ends.b1 (fun zv => ?_) (fun zv => ?_)))
      · have ex : ∃ x, x < n ∧ S (gI n x y z t) = true := by
          apply Classical.byContradiction
          intro hno
          apply zv
          refine cmp64_z.mpr ((tb_z hrow.1).mpr (fun x hx => ?_))
          rw [hbit x hx]
          by_cases q : x < n
          · cases e : S (gI n x y z t)
            · simp
            · exact absurd ⟨x, q, e⟩ hno
          · simp [q]
        obtain ⟨x0, hx0, hS0⟩ := ex
        have ec : cond (tst 1 (ax : Int) 1) (z : Int) (y : Int) = if ax = 1 then (y : Int) else (z : Int) := by
          rw [tst1]
          by_cases q : ax = 1
          · subst q; rfl
          · rw [decide_eq_false (by omega), if_neg q]; rfl
        refine Ends.eq (b341_111 (n := n) (by (repeat' first | assumption | refine LX.setF _ _ ?_ (by decide +kernel) | refine LX.setS ?_ rfl | refine LX.setA ?_ (by first | assumption | omega))) (by first | assumption | omega)) ?_
        rw [w_succ (by omega), ec]
        refine ihy _ _ ⟨_,  _, _, _, _, rfl, (by (repeat' first | assumption | refine LX.setF _ _ ?_ (by decide +kernel) | refine LX.setS ?_ rfl | refine LX.setA ?_ (by assumption))), by omega, ?_⟩
        refine ⟨rfl, cn_bop64, fun x hx => ?_, (p2.add (c := if ax = 1 then (y : Int) else (z : Int)) (by split <;> omega)).congr (fun c => ?_)⟩
        · rw [tb_or, Bool.or_eq_true, a2 x hx, hbit x hx]
          unfold ecA
          simp only [Bool.and_eq_true, decide_eq_true_eq]
          constructor
          · rintro (⟨h1, z', y', h2, h3, h4, h5⟩ | ⟨h1, h2⟩)
            · exact ⟨h1, z', y', h2, h3, by omega, h5⟩
            · exact ⟨h1, z, y, hz, hy, by omega, h2⟩
          · rintro ⟨h1, z', y', h2, h3, h4, h5⟩
            by_cases e : z' = z ∧ y' = y
            · obtain ⟨rfl, rfl⟩ := e; exact Or.inr ⟨h1, h5⟩
            · exact Or.inl ⟨h1, z', y', h2, h3, by omega, h5⟩
        · unfold ecP
          constructor
          · rintro (⟨z', y', x', h1, h2, h3, h4, h5, h6⟩ | h6)
            · exact ⟨z', y', x', h1, h2, h3, by omega, h5, h6⟩
            · exact ⟨z, y, x0, hz, hy, hx0, by omega, hS0, h6⟩
          · rintro ⟨z', y', x', h1, h2, h3, h4, h5, h6⟩
            by_cases e : z' = z ∧ y' = y
            · obtain ⟨rfl, rfl⟩ := e; exact Or.inr h6
            · exact Or.inl ⟨z', y', x', h1, h2, h3, by omega, h5, h6⟩
      · have no : ∀ x, x < n → S (gI n x y z t) = false := fun x hx => by
          have := (tb_z hrow.1).mp (cmp64_z.mp zv) x (by omega)
          rw [hbit x (by omega)] at this
          simpa [hx] using this
        refine Ends.eq (b341_111 (n := n) (by (repeat' first | assumption | refine LX.setF _ _ ?_ (by decide +kernel) | refine LX.setS ?_ rfl | refine LX.setA ?_ (by first | assumption | omega))) (by first | assumption | omega)) ?_
        rw [w_succ (by omega)]
        refine ihy _ _ ⟨_,  _, _, _, _, rfl, (by (repeat' first | assumption | refine LX.setF _ _ ?_ (by decide +kernel) | refine LX.setS ?_ rfl | refine LX.setA ?_ (by assumption))), by omega, ?_⟩
        refine ⟨rfl, c2, fun x hx => ?_, p2.congr (fun c => ?_)⟩
        · rw [a2 x hx]
          unfold ecA
          constructor
          · rintro ⟨h1, z', y', h2, h3, h4, h5⟩
            exact ⟨h1, z', y', h2, h3, by omega, h5⟩
          · rintro ⟨h1, z', y', h2, h3, h4, h5⟩
            by_cases e : z' = z ∧ y' = y
            · obtain ⟨rfl, rfl⟩ := e; rw [no x h1] at h5; cases h5
            · exact ⟨h1, z', y', h2, h3, by omega, h5⟩
        · unfold ecP
          constructor
          · rintro ⟨z', y', x', h1, h2, h3, h4, h5, h6⟩
            exact ⟨z', y', x', h1, h2, h3, by omega, h5, h6⟩
          · rintro ⟨z', y', x', h1, h2, h3, h4, h5, h6⟩
            by_cases e : z' = z ∧ y' = y
            · obtain ⟨rfl, rfl⟩ := e; rw [no x' h3] at h5; cases h5
            · exact ⟨z', y', x', h1, h2, h3, by omega, h5, h6⟩
    · rintro y _ q2 hy ⟨al2, bs2, uq20, uq21, uq22, rfl, lq2, hyN, ⟨rfl, c2, a2, p2⟩⟩
      obtain rfl : n = y := by omega
      refine Ends.eq (b341_21 (n := n) (by (repeat' first | assumption | refine LX.setF _ _ ?_ (by decide +kernel) | refine LX.setS ?_ rfl | refine LX.setA ?_ (by first | assumption | omega))) (by first | assumption | omega)) ?_
      refine Ends.b3 (fun _ => ?_) (fun _ => by omega)
      rw [w_succ (by omega)]
      refine ihz _ _ ⟨_,  _, _, _, _, _, rfl, (by (repeat' first | assumption | refine LX.setF _ _ ?_ (by decide +kernel) | refine LX.setS ?_ rfl | refine LX.setA ?_ (by assumption))), by omega, ?_⟩
      refine ⟨rfl, c2, fun x hx => ?_, p2.congr (fun c => ?_)⟩
      · rw [a2 x hx]
        unfold ecA
        constructor
        · rintro ⟨h1, z', y', h2, h3, h4, h5⟩; exact ⟨h1, z', y', h2, h3, by omega, h5⟩
        · rintro ⟨h1, z', y', h2, h3, h4, h5⟩; exact ⟨h1, z', y', h2, h3, by omega, h5⟩
      · unfold ecP
        constructor
        · rintro ⟨z', y', x', h1, h2, h3, h4, h5, h6⟩; exact ⟨z', y', x', h1, h2, h3, by omega, h5, h6⟩
        · rintro ⟨z', y', x', h1, h2, h3, h4, h5, h6⟩; exact ⟨z', y', x', h1, h2, h3, by omega, h5, h6⟩
    · exact ⟨rfl, c1, a1, p1⟩
  · rintro z _ q hz ⟨al, bs, uq0, uq1, uq2, uq3, rfl, lq, hzN, ⟨rfl, c1, a1, p1⟩⟩
    obtain rfl : n = z := by omega
    have pF : ax ≠ 0 → Bst gr (ecC n S t ax) bs := fun h0 => p1.congr (fun c => by
      unfold ecP ecC
      constructor
      · rintro ⟨z', y', x', h1, h2, h3, h4, h5, h6⟩; exact ⟨z', y', x', h1, h2, h3, h5, by rw [if_neg h0]; exact h6⟩
      · rintro ⟨z', y', x', h1, h2, h3, h5, h6⟩; rw [if_neg h0] at h6; exact ⟨z', y', x', h1, h2, h3, by omega, h5, h6⟩)
    have aF : ∀ x, x < 64 → (tb al x = true ↔ ecC n S t 0 (x : Int)) := fun x hx => by
      rw [a1 x hx]
      unfold ecA ecC
      constructor
      · rintro ⟨h1, z', y', h2, h3, h4, h5⟩; exact ⟨z', y', x, h2, h3, h1, h5, rfl⟩
      · rintro ⟨z', y', x', h1, h2, h3, h5, h6⟩
        rw [if_pos rfl] at h6
        obtain rfl : x = x' := by omega
        exact ⟨h3, z', y', h1, h2, by omega, h5⟩
    have aB : ∀ c, ecC n S t 0 c → ∃ x : Nat, c = (x : Int) ∧ x < n := fun c => by
      unfold ecC
      rintro ⟨z', y', x', h1, h2, h3, h5, h6⟩
      exact ⟨x', h6, h3⟩
    refine Ends.eq (b341_9 (n := n) (by (repeat' first | assumption | refine LX.setF _ _ ?_ (by decide +kernel) | refine LX.setS ?_ rfl | refine LX.setA ?_ (by first | assumption | omega))) (by first | assumption | omega)) ?_
    refine Ends.b3 (fun _ => ?_) (fun _ => by omega)
    refine Ends.b4 (fun h0 => ?_) (fun h0 => ?_)
    · refine Ends.eq (b341_134 (n := n) (by (repeat' first | assumption | refine LX.setF _ _ ?_ (by decide +kernel) | refine LX.setS ?_ rfl | refine LX.setA ?_ (by first | assumption | omega))) (by first | assumption | omega)) ?_
      exact Ends.sm ⟨_, _, rfl, rfl, pF (by omega)⟩
    · obtain rfl : ax = 0 := by omega
      refine Ends.b1 (fun zv => ?_) (fun zv => ?_)
      · have hv0 : al ≠ 0 := fun e => zv (cmp64_z.mpr e)
        cases gr
        · obtain ⟨k, lk⟩ := Low.ex c1 hv0
          refine Ends.b0 (fun _ => ?_) (fun z => absurd rfl z)
          refine Ends.ct lq (by decide +kernel) (by decide) (c_ntz lq (by omega) lk) (fun r h5 l5 _ _ _ ⟨e5, e6⟩ => ?_)
          subst e5 e6
          refine Ends.eq (b341_158 (n := n) (by (repeat' first | assumption | refine LX.setF _ _ ?_ (by decide +kernel) | refine LX.setS ?_ rfl | refine LX.setA ?_ (by first | assumption | omega))) (by first | assumption | omega)) ?_
          refine Ends.sm ⟨_, _, rfl, rfl, Or.inr ⟨by omega, (aF k lk.1).mp lk.2.1, fun c hc => ?_⟩⟩
          obtain ⟨x, rfl, hx⟩ := aB c hc
          have := (aF x (by omega)).mpr hc
          simp only [Bool.false_eq_true, if_false]
          apply Classical.byContradiction
          intro q
          rw [lk.2.2 x (by omega)] at this; cases this
        · have hb : ∀ x, 52 ≤ x → x < 64 → tb al x = false := fun x h1 h2 => by
            cases e : tb al x
            · rfl
            · obtain ⟨x', e1, e2⟩ := aB _ ((aF x h2).mp e); omega
          have hpos : ∃ N : Nat, al = (N : Int) ∧ 0 < N ∧ N / 4294967296 < 1048576 ∧ N < 9223372036854775808 := by
            have hu : uN al < 2 ^ 52 := by
              apply Nat.lt_pow_two_of_testBit
              intro i hi
              rw [← tb_uN]
              by_cases q : i < 64
              · exact hb i hi q
              · exact tb_big (by omega)
            have hz : uN al ≠ 0 := fun e => hv0 ((uN_z c1).mpr e)
            rw [show (2 : Nat) ^ 52 = 4503599627370496 by decide] at hu
            have h3 := c1.1; have h4 := c1.2
            have ea : al = ((uN al : Nat) : Int) := by unfold uN at hu ⊢; omega
            refine ⟨uN al, ea, Nat.pos_of_ne_zero hz, (Nat.div_lt_iff_lt_mul (Nat.le_of_ble_eq_true rfl)).mpr (Nat.lt_of_lt_of_le hu (Nat.le_of_ble_eq_true rfl)), Nat.lt_trans hu (Nat.le_of_ble_eq_true rfl)⟩
          obtain ⟨N, rfl, hp1, hp2, hp3⟩ := hpos
          obtain ⟨k, hk, ek⟩ := nlz_is hp1 hp2 hp3
          refine Ends.b0 (fun z => absurd z (by decide)) (fun _ => ?_)
          rw [ek, sub32 (by have := hk.1; omega) (by have := hk.1; omega)]
          refine Ends.eq (b341_158 (n := n) (by (repeat' first | assumption | refine LX.setF _ _ ?_ (by decide +kernel) | refine LX.setS ?_ rfl | refine LX.setA ?_ (by first | assumption | omega))) (by first | assumption | omega)) ?_
          refine Ends.sm ⟨_, _, rfl, rfl, Or.inr ⟨by have := hk.1; omega, ?_, fun c hc => ?_⟩⟩
          · rw [show (63 : Int) - (63 - (k : Int)) = (k : Int) by omega]; exact (aF k hk.1).mp hk.2.1
          · obtain ⟨x, rfl, hx⟩ := aB c hc
            have := (aF x (by omega)).mpr hc
            simp only [if_true]
            apply Classical.byContradiction
            intro q
            rw [hk.2.2 x (by omega)] at this; cases this
      · rw [cmp64_z] at zv
        subst zv
        refine Ends.eq (b341_134 (n := n) (by (repeat' first | assumption | refine LX.setF _ _ ?_ (by decide +kernel) | refine LX.setS ?_ rfl | refine LX.setA ?_ (by first | assumption | omega))) (by first | assumption | omega)) ?_
        refine Ends.sm ⟨_, _, rfl, rfl, ?_⟩
        rcases p1 with ⟨p1, p2⟩ | ⟨p1, p2, p3⟩
        · refine Or.inl ⟨p1, fun c hc => ?_⟩
          obtain ⟨x, rfl, hx⟩ := aB c hc
          have := (aF x (by omega)).mpr hc
          rw [tb_0] at this; cases this
        · exfalso
          unfold ecP at p2
          obtain ⟨z', y', x', h1, h2, h3, h4, h5, h6⟩ := p2
          have := (aF x' (by omega)).mpr ⟨z', y', x', h1, h2, h3, h5, rfl⟩
          rw [tb_0] at this; cases this
  · refine ⟨rfl, ⟨by decide, by decide⟩, fun x hx => ?_, Or.inl ⟨rfl, fun c => ?_⟩⟩
    · rw [tb_0]
      unfold ecA
      constructor
      · intro h; cases h
      · rintro ⟨h1, z', y', h2, h3, h4, h5⟩; omega
    · unfold ecP
      rintro ⟨z', y', x', h1, h2, h3, h4, h5, h6⟩; omega
end ENDC
/-- corner k of sort t along an axis, in halves; the least and the greatest of the four -/
def crn (t k ax : Nat) : Nat := if k = 3 then 1 else if ax = aC t then (if hiC t then 2 else 0) else if k = 2 then 1 else if ax = aB t then (if hiB t then 2 else 0) else if k = 0 then 0 else 2
def loT (t ax : Nat) : Nat := min (min (crn t 0 ax) (crn t 1 ax)) (min (crn t 2 ax) 1)
def hiT (t ax : Nat) : Nat := max (max (crn t 0 ax) (crn t 1 ax)) (max (crn t 2 ax) 1)
theorem crn_all : ∀ t : Fin 24, ∀ ax : Fin 3, (∀ k : Fin 4, loT t ax ≤ crn t k ax ∧ crn t k ax ≤ hiT t ax) ∧ (∃ k : Fin 4, crn t k ax = loT t ax) ∧ (∃ k : Fin 4, crn t k ax = hiT t ax) ∧ hiT t ax ≤ 2 := by decide +kernel
theorem crn_allN {t ax : Nat} (ht : t < 24) (hax : ax < 3) : (∀ k, k < 4 → loT t ax ≤ crn t k ax ∧ crn t k ax ≤ hiT t ax) ∧ (∃ k, k < 4 ∧ crn t k ax = loT t ax) ∧ (∃ k, k < 4 ∧ crn t k ax = hiT t ax) ∧ hiT t ax ≤ 2 := by
  obtain ⟨a1, ⟨k1, a2⟩, ⟨k2, a3⟩, a4⟩ := crn_all ⟨t, ht⟩ ⟨ax, hax⟩
  exact ⟨fun k hk => a1 ⟨k, hk⟩, ⟨k1, k1.2, a2⟩, ⟨k2, k2.2, a3⟩, a4⟩
section ENDR
variable {gv : Nat → Int} {B n d a : Nat} {h : AH} {S : Nat → Bool}
theorem crn_is (m : TbC B h) {t k ax : Nat} (ht : t < 24) : v226 B h (t : Int) (k : Int) (ax : Int) = ((crn t k ax : Nat) : Int) ∧ q226 B h (t : Int) (k : Int) (ax : Int) := by
  obtain ⟨-, -, m3, m4, m5, m6, -⟩ := m.1 t ht
  constructor
  · unfold v226 crn
    rw [tn, m3, m4, m5, m6, tst1, tst1, tst1, tst1, tst1, tst0, tst0]
    by_cases e1 : k = 3
    · subst e1; rfl
    · rw [decide_eq_false (show ¬ (k : Int) = 3 by omega), if_neg e1]
      by_cases e2 : ax = aC t
      · rw [decide_eq_true (show (ax : Int) = (aC t : Nat) by omega), if_pos e2]
        cases hiC t <;> rfl
      · rw [decide_eq_false (show ¬ (ax : Int) = (aC t : Nat) by omega), if_neg e2]
        by_cases e3 : k = 2
        · subst e3; rfl
        · rw [decide_eq_false (show ¬ (k : Int) = 2 by omega), if_neg e3]
          by_cases e4 : ax = aB t
          · rw [decide_eq_true (show (ax : Int) = (aB t : Nat) by omega), if_pos e4]
            cases hiB t <;> rfl
          · rw [decide_eq_false (show ¬ (ax : Int) = (aB t : Nat) by omega), if_neg e4]
            by_cases e5 : k = 0
            · subst e5; rfl
            · rw [decide_eq_false (show ¬ (k : Int) = 0 by omega), if_neg e5]; rfl
  · unfold q226
    cases tst 1 (k : Int) 3
    · trivial
    · exact ⟨by omega, by omega⟩
theorem minN (x y : Nat) : v892 (x : Int) (y : Int) = ((min x y : Nat) : Int) := by
  unfold v892; rw [tst4]
  by_cases q : (y : Int) < (x : Int) <;> simp only [q, decide_true, decide_false, cond_true, cond_false] <;> omega
theorem maxN (x y : Nat) : v891 (x : Int) (y : Int) = ((max x y : Nat) : Int) := by
  unfold v891; rw [tst2]
  by_cases q : (x : Int) < (y : Int) <;> simp only [q, decide_true, decide_false, cond_true, cond_false] <;> omega
/-- a corner of a grain of S, of sorts below t, along an axis, in halves -/
def enP (n : Nat) (S : Nat → Bool) (ax t : Nat) (c : Int) : Prop := ∃ g k, g < gN n ∧ k < 4 ∧ gSo g < t ∧ S g = true ∧ c = ((2 * gC n g ax + crn (gSo g) k ax : Nat) : Int)
/-- the end: 0 of none -/
def End_ (gr : Bool) (P : Int → Prop) (f v : Int) : Prop := (f = 0 ∧ v = 0 ∧ ∀ c, ¬ P c) ∨ (f = 1 ∧ P v ∧ ∀ c, P c → if gr then c ≤ v else v ≤ c)
theorem ecC_of {t ax : Nat} (ht : t < 24) (hax : ax < 3) (c : Int) : ecC n S t ax c ↔ ∃ g, g < gN n ∧ gSo g = t ∧ S g = true ∧ c = ((gC n g ax : Nat) : Int) := by
  unfold ecC
  constructor
  · rintro ⟨z, y, x, hz, hy, hx, hS, rfl⟩
    refine ⟨gI n x y z t, gI_lt hx hy hz ht, gSo_I ht, hS, ?_⟩
    unfold gC
    obtain rfl | rfl | rfl : ax = 0 ∨ ax = 1 ∨ ax = 2 := by omega
    · simp only [if_true, gX_I hx ht]
    · simp only [gY_I hx hy ht]; rfl
    · simp only [gZ_I hx hy ht]; rfl
  · rintro ⟨g, hg, rfl, hS, rfl⟩
    obtain ⟨-, h1, h2, h3, h4⟩ := g_lt hg
    refine ⟨gZ n g, gY n g, gX n g, h3, h2, h1, by rw [gI_g]; exact hS, ?_⟩
    unfold gC
    obtain rfl | rfl | rfl : ax = 0 ∨ ax = 1 ∨ ax = 2 := by omega
    · rfl
    · rfl
    · rfl
set_option maxHeartbeats 2000000 in
theorem c_end (l : LX B n h) (hd : 14 ≤ d) (hn0 : 0 < n) (hn : n ≤ 52) (m : TbC B h) (sa : SG n h a S) {ax : Nat} (hax : ax < 3) {gr : Bool} :
    Vt 0 (cll PP (ev PP (gsF gv) B) d 340 [(2, rf (B + 51)), (2, rf a), (0, (ax : Int)), (0, (if gr then 1 else 0))] h) (fun v h' => h' = h ∧ ∃ f, End_ gr (enP n S ax 24) f v) := by
  refine Vt.into (D := 13) hd (Nat.le_of_ble_eq_true rfl) rfl (fun d hd => ?_)
  refine Ends.eq (b340_0 l (by omega)) ?_
  refine lp (24) (fun t L q => ∃ v, ∃ f, ∃ u7 u8 u9 u10 : AV, L = [(2, rf (B + 51)), (2, (rf a)), (0, ((ax : Int))), (0, (if gr then 1 else 0)), (0, v), (0, f), (0, ((t : Int))), u7, u8, u9, u10] ∧ LX B n q ∧ t ≤ 24 ∧ q = h ∧ End_ gr (enP n S ax t) f v ∧ 0 ≤ v ∧ v ≤ 200) ?_ ?_ (0) ⟨0, 0, _, _, _, _, rfl, (by (repeat' first | assumption | refine LX.setF _ _ ?_ (by decide +kernel) | refine LX.setS ?_ rfl | refine LX.setA ?_ (by assumption))), by omega, ?_⟩
  · rintro t _ q ht ⟨v, f, uq0, uq1, uq2, uq3, rfl, lq, htN, ⟨rfl, e1, v1, v2⟩⟩ iht
    obtain ⟨c0, q0⟩ := crn_is m (k := 0) (ax := ax) ht
    obtain ⟨c1, q1⟩ := crn_is m (k := 1) (ax := ax) ht
    obtain ⟨c2, q2⟩ := crn_is m (k := 2) (ax := ax) ht
    obtain ⟨a1, ⟨kl, hkl, a2⟩, ⟨kh, hkh, a3⟩, a4⟩ := crn_allN ht hax
    refine Ends.eq (b340_9 (n := n) (by (repeat' first | assumption | refine LX.setF _ _ ?_ (by decide +kernel) | refine LX.setS ?_ rfl | refine LX.setA ?_ (by first | assumption | omega))) (by first | assumption | omega)) ?_
    refine Ends.b3 (fun _ => by omega) (fun _ => Ends.g q0 (Ends.g q1 (Ends.g q2 ?_)))
    rw [show v226 B q (t : Int) 0 (ax : Int) = _ from c0, show v226 B q (t : Int) 1 (ax : Int) = _ from c1, show v226 B q (t : Int) 2 (ax : Int) = _ from c2, minN, show v892 ((crn t 2 ax : Nat) : Int) 1 = _ from minN _ 1, minN, maxN, show v891 ((crn t 2 ax : Nat) : Int) 1 = _ from maxN _ 1, maxN]
    rw [show min (min (crn t 0 ax) (crn t 1 ax)) (min (crn t 2 ax) 1) = loT t ax from rfl, show max (max (crn t 0 ax) (crn t 1 ax)) (max (crn t 2 ax) 1) = hiT t ax from rfl]
    refine Ends.ct lq (by decide +kernel) (by decide) (c_endCube lq (by omega) hn0 hn sa ht hax) (fun cu h5 l5 _ _ _ ⟨e5, b5⟩ => ?_)
    subst e5
    have bb := b5.congr (ecC_of ht hax)
    refine Ends.eq (b340_115 (n := n) (by (repeat' first | assumption | refine LX.setF _ _ ?_ (by decide +kernel) | refine LX.setS ?_ rfl | refine LX.setA ?_ (by first | assumption | omega))) (by first | assumption | omega)) ?_
    rcases bb with ⟨rfl, b2⟩ | ⟨b1, ⟨g0, hg0, s0, S0, e0⟩, b3⟩
    · refine Ends.b3 (fun z => absurd z (by decide)) (fun _ => ?_)
      refine Ends.eq (b340_179 (n := n) (by (repeat' first | assumption | refine LX.setF _ _ ?_ (by decide +kernel) | refine LX.setS ?_ rfl | refine LX.setA ?_ (by first | assumption | omega))) (by first | assumption | omega)) ?_
      rw [w_succ (by omega)]
      refine iht _ _ ⟨v,  f, _, _, _, _, rfl, (by (repeat' first | assumption | refine LX.setF _ _ ?_ (by decide +kernel) | refine LX.setS ?_ rfl | refine LX.setA ?_ (by assumption))), by omega, ?_⟩
      refine ⟨rfl, ?_, v1, v2⟩
      have eq : ∀ c, enP n S ax (t + 1) c ↔ enP n S ax t c := fun c => by
        unfold enP
        constructor
        · rintro ⟨g, k, h1, h2, h3, h4, h5⟩
          refine ⟨g, k, h1, h2, ?_, h4, h5⟩
          have : gSo g ≠ t := fun e => b2 _ ⟨g, h1, e, h4, rfl⟩
          omega
        · rintro ⟨g, k, h1, h2, h3, h4, h5⟩; exact ⟨g, k, h1, h2, by omega, h4, h5⟩
      unfold End_ at e1 ⊢
      simp only [eq]
      exact e1
    · have hcb := gC_lt (a := ax) hg0
      refine Ends.b3 (fun _ => ?_) (fun z => by omega)
      have ev : bop32 96 (bop32 104 2 cu) (cond (tst 0 (if gr then 1 else 0) 0) ((loT t ax : Nat) : Int) ((hiT t ax : Nat) : Int)) = 2 * cu + (if gr then (hiT t ax : Int) else (loT t ax : Int)) := by
        have hl := (a1 0 (by decide)).1; have hh := (a1 0 (by decide)).2
        cases gr
        · show bop32 96 (bop32 104 2 cu) ((loT t ax : Nat) : Int) = _
          rw [mul32 (by omega) (by omega), add32 (by omega) (by omega)]; rfl
        · show bop32 96 (bop32 104 2 cu) ((hiT t ax : Nat) : Int) = _
          rw [mul32 (by omega) (by omega), add32 (by omega) (by omega)]; rfl
      rw [ev]
      refine Ends.eq (b340_179 (n := n) (by (repeat' first | assumption | refine LX.setF _ _ ?_ (by decide +kernel) | refine LX.setS ?_ rfl | refine LX.setA ?_ (by first | assumption | omega))) (by first | assumption | omega)) ?_
      rw [w_succ (by omega)]
      refine iht _ _ ⟨_,  _, _, _, _, _, rfl, (by (repeat' first | assumption | refine LX.setF _ _ ?_ (by decide +kernel) | refine LX.setS ?_ rfl | refine LX.setA ?_ (by assumption))), by omega, ?_⟩
      refine ⟨rfl, ?_⟩
      -- the best of sort t
      have best : enP n S ax (t + 1) (2 * cu + (if gr then (hiT t ax : Int) else (loT t ax : Int))) ∧ ∀ c, enP n S ax (t + 1) c → enP n S ax t c ∨ if gr then c ≤ 2 * cu + (hiT t ax : Int) else 2 * cu + (loT t ax : Int) ≤ c := by
        constructor
        · cases gr
          · exact ⟨g0, kl, hg0, hkl, by omega, S0, by rw [s0, a2, e0]; simp⟩
          · exact ⟨g0, kh, hg0, hkh, by omega, S0, by rw [s0, a3, e0]; simp⟩
        · rintro c ⟨g, k, h1, h2, h3, h4, h5⟩
          by_cases e : gSo g = t
          · right
            have hb := b3 _ ⟨g, h1, e, h4, rfl⟩
            have hk := a1 k h2
            rw [e] at h5
            cases gr <;> simp at hb ⊢ <;> omega
          · exact Or.inl ⟨g, k, h1, h2, by omega, h4, h5⟩
      have up : ∀ c, enP n S ax t c → enP n S ax (t + 1) c := fun c => by
        unfold enP
        rintro ⟨g, k, h1, h2, h3, h4, h5⟩; exact ⟨g, k, h1, h2, by omega, h4, h5⟩
      obtain ⟨bs1, bs2⟩ := best
      rcases e1 with ⟨rfl, rfl, e3⟩ | ⟨rfl, e2, e3⟩
      · rw [show tst 1 (0 : Int) 0 = false from rfl, cond_false]
        refine ⟨Or.inr ⟨rfl, bs1, fun c hc => ?_⟩, ?_⟩
        · rcases bs2 c hc with h | h
          · exact absurd h (e3 c)
          · cases gr <;> simp at h ⊢ <;> omega
        · have hl0 := (a1 0 (by decide)).1; have hh0 := (a1 0 (by decide)).2
          cases gr <;> simp <;> omega
      · rw [show tst 1 (1 : Int) 0 = true from rfl, cond_true]
        cases gr
        · show End_ false _ 1 (v892 v (2 * cu + (loT t ax : Int))) ∧ 0 ≤ v892 v (2 * cu + (loT t ax : Int)) ∧ v892 v (2 * cu + (loT t ax : Int)) ≤ 200
          have hl0 := (a1 0 (by decide)).1; have hh0 := (a1 0 (by decide)).2
          simp only [Bool.false_eq_true, if_false] at bs1 bs2 e3
          unfold v892
          rw [tst4]
          by_cases q : 2 * cu + (loT t ax : Int) < v
          · simp only [q, decide_true, cond_true]
            refine ⟨Or.inr ⟨rfl, bs1, fun c hc => ?_⟩, by omega, by omega⟩
            simp only [Bool.false_eq_true, if_false]
            rcases bs2 c hc with h | h
            · have := e3 c h; omega
            · exact h
          · simp only [q, decide_false, cond_false]
            refine ⟨Or.inr ⟨rfl, up _ e2, fun c hc => ?_⟩, by omega, by omega⟩
            simp only [Bool.false_eq_true, if_false]
            rcases bs2 c hc with h | h
            · exact e3 c h
            · omega
        · show End_ true _ 1 (v891 v (2 * cu + (hiT t ax : Int))) ∧ 0 ≤ v891 v (2 * cu + (hiT t ax : Int)) ∧ v891 v (2 * cu + (hiT t ax : Int)) ≤ 200
          simp only [if_true] at bs1 bs2 e3
          unfold v891
          rw [tst2]
          by_cases q : v < 2 * cu + (hiT t ax : Int)
          · simp only [q, decide_true, cond_true]
            refine ⟨Or.inr ⟨rfl, bs1, fun c hc => ?_⟩, by omega, by omega⟩
            simp only [if_true]
            rcases bs2 c hc with h | h
            · have := e3 c h; omega
            · exact h
          · simp only [q, decide_false, cond_false]
            refine ⟨Or.inr ⟨rfl, up _ e2, fun c hc => ?_⟩, by omega, by omega⟩
            simp only [if_true]
            rcases bs2 c hc with h | h
            · exact e3 c h
            · omega
  · rintro t _ q ht ⟨v, f, uq0, uq1, uq2, uq3, rfl, lq, htN, ⟨rfl, e1, v1, v2⟩⟩
    obtain rfl : t = 24 := by omega
    refine Ends.eq (b340_9 (n := n) (by (repeat' first | assumption | refine LX.setF _ _ ?_ (by decide +kernel) | refine LX.setS ?_ rfl | refine LX.setA ?_ (by first | assumption | omega))) (by first | assumption | omega)) ?_
    exact Ends.b3 (fun _ => Ends.sm ⟨_, _, rfl, rfl, f, e1⟩) (fun _ => by omega)
  · refine ⟨rfl, Or.inl ⟨rfl, rfl, fun c => ?_⟩, by decide, by decide⟩
    unfold enP
    rintro ⟨g, k, h1, h2, h3, h4, h5⟩; omega
end ENDR
