/-! L3: measures: the grains beyond facets; area on both sides -/
/-- has S the grain beyond facet f of g? -/
def nbS (n : Nat) (S : Nat → Bool) (f g : Nat) : Bool := decide (0 ≤ nbr n g f) && S (nbr n g f).toNat
/-- facet f of g is of the border of S -/
def bdF (n : Nat) (S : Nat → Bool) (f g : Nat) : Bool := S g && !nbS n S f g
def arF (n : Nat) (S : Nat → Bool) (f : Nat) : Nat := cntN (bdF n S f) (gN n)
/-- the area's two parts -/
def areaS (n : Nat) (S : Nat → Bool) (p : Int) : Nat := if p = 0 then arF n S 0 else 2 * arF n S 1 + arF n S 2 + arF n S 3
section NB166
variable {gv : Nat → Int} {B n d a : Nat} {h : AH} {S : Nat → Bool} {p : Int}
theorem bdr_F {g f : Nat} (hf : f < 4) : bdr n S (4 * g + f) = bdF n S f g := by
  unfold bdr bdF nbS
  rw [show (4 * g + f) / 4 = g by omega, show (4 * g + f) % 4 = f by omega]
  by_cases e : 0 ≤ nbr n g f
  · rw [decide_eq_true e, decide_eq_false (show ¬ nbr n g f < 0 by omega)]
    rfl
  · rw [decide_eq_false e, decide_eq_true (show nbr n g f < 0 by omega)]
    rfl
theorem nb_is (m : TbC B h) (hn : n ≤ 52) (s : SG n h a S) {t z y f : Nat} (ht : t < 24) (hz : z < n) (hy : y < n) (hf : f < 4) : q166 B n h (rf a) (t : Int) (f : Int) (z : Int) (y : Int) ∧ ∀ x, x < 64 → tb (v166 B n h (rf a) (t : Int) (f : Int) (z : Int) (y : Int)) x = (decide (x < n) && nbS n S f (gI n x y z t)) := by
  obtain ⟨-, -, -, m4, -, m6, m7, -⟩ := m.1 t ht
  have mn := (m7 f hf).1
  have hnx : nxt t f < 24 := nxt_lt ⟨t, ht⟩ ⟨f, hf⟩
  have hac : aC t < 3 := (ax_lt ⟨t, ht⟩).2.2
  have hnN := rows_le hn
  have e4 : bop32 96 (bop32 104 (4 : Int) (t : Int)) (f : Int) = ((4 * t + f : Nat) : Int) := by
    rw [show bop32 104 (4 : Int) (t : Int) = ((4 * t : Nat) : Int) from mulNN (x := 4) (by omega)]
    exact addNN (by omega)
  have eby : cond (tst 0 (if hiC t then (1 : Int) else 0) 0) (-1) 1 = if hiC t then (1 : Int) else -1 := by cases hiC t <;> rfl
  have bby : (if hiC t then (1 : Int) else -1) = 1 ∨ (if hiC t then (1 : Int) else -1) = -1 := by cases hiC t <;> simp
  have rb : ∀ z' y' : Nat, z' < n → y' < n → (0 < rf a ∧ (hk h (ad (rf a))).1 = 1 + 2 ∧ 0 ≤ v238 n ((nxt t f : Nat) : Int) (z' : Int) (y' : Int) ∧ v238 n ((nxt t f : Nat) : Int) (z' : Int) (y' : Int) < (((hk h (ad (rf a))).2 : Nat) : Int)) ∧ ∀ x, x < 64 → tb (hv h (ad (rf a)) (Int.toNat (v238 n ((nxt t f : Nat) : Int) (z' : Int) (y' : Int)))) x = (decide (x < n) && S (gI n x y' z' (nxt t f))) := fun z' y' hz' hy' => by
    have r1 := rw3_lt hnx hz' hy'
    rw [row_eq hn hnx hz' hy', tn, ad_rf, s.1]
    exact ⟨⟨rf_pos a, rfl, by omega, by show _ < ((24 * n * n : Nat) : Int); omega⟩, fun x hx => s.bit hnx hz' hy' hx⟩
  have far : ∀ x, nbr n (gI n x y z t) f = -1 → nbS n S f (gI n x y z t) = false := fun x e => by unfold nbS; rw [e]; rfl
  have near : ∀ (x b : Nat), nbr n (gI n x y z t) f = ((b : Nat) : Int) → nbS n S f (gI n x y z t) = S b := fun x b e => by unfold nbS; rw [e, decide_eq_true (Int.natCast_nonneg b), Bool.true_and, tn]
  unfold q166 v166
  rw [e4, tn, tn, mn, m4, m6, eby]
  simp only [ct1, ct2, ct3, ct5]
  clear e4 eby
  by_cases hf0 : f = 0
  rotate_left
  · obtain ⟨r1, r2⟩ := rb z y hz hy
    have c1 : (0 : Int) < ((f : Nat) : Int) := Int.ofNat_lt.mpr (Nat.pos_of_ne_zero hf0)
    rw [if_pos c1, if_pos c1]
    refine ⟨⟨⟨by omega, by omega⟩, r1⟩, fun x hx => ?_⟩
    rw [r2 x hx]
    by_cases hxn : x < n
    · rw [near x (gI n x y z (nxt t f)) (by unfold nbr; rw [if_neg hf0, gX_I hxn ht, gY_I hxn hy ht, gZ_I hxn hy ht, gSo_I ht])]
    · rw [decide_eq_false hxn, Bool.false_and, Bool.false_and]
  subst hf0
  have c1 : ¬ (0 : Int) < ((0 : Nat) : Int) := by decide
  rw [if_neg c1, if_neg c1]
  have g0 : ∀ (x : Nat), x < n → gX n (gI n x y z t) = x ∧ gY n (gI n x y z t) = y ∧ gZ n (gI n x y z t) = z ∧ gSo (gI n x y z t) = t := fun x hx => ⟨gX_I hx ht, gY_I hx hy ht, gZ_I hx hy ht, gSo_I ht⟩
  have nbx : ∀ (x x' y' z' : Nat), x < n → (x' : Int) = x + stpC t 0 → (y' : Int) = y + stpC t 1 → (z' : Int) = z + stpC t 2 → x' < n → y' < n → z' < n → nbS n S 0 (gI n x y z t) = S (gI n x' y' z' (nxt t 0)) := fun x x' y' z' hx e1 e2 e3 h1 h2 h3 => by
    obtain ⟨a1, a2, a3, a4⟩ := g0 x hx
    refine near x _ ?_
    have := nbr0_in (n := n) (g := gI n x y z t) (x' := x') (y' := y') (z' := z') (by rw [a1, a4]; exact e1) (by rw [a2, a4]; exact e2) (by rw [a3, a4]; exact e3) h1 h2 h3
    rw [a4] at this
    exact this
  have nbo : ∀ (x : Nat), x < n → ((x : Int) + stpC t 0 < 0 ∨ (y : Int) + stpC t 1 < 0 ∨ (z : Int) + stpC t 2 < 0 ∨ (n : Int) ≤ x + stpC t 0 ∨ (n : Int) ≤ y + stpC t 1 ∨ (n : Int) ≤ z + stpC t 2) → nbS n S 0 (gI n x y z t) = false := fun x hx w => by
    obtain ⟨a1, a2, a3, a4⟩ := g0 x hx
    exact far x (nbr0_out (by rw [a1, a2, a3, a4]; exact w))
  have q1 : (0 : Int) ≤ ((4 * t + 0 : Nat) : Int) ∧ ((4 * t + 0 : Nat) : Int) < ((96 : Nat) : Int) := ⟨by omega, by omega⟩
  have q2 : (0 : Int) ≤ (t : Int) ∧ (t : Int) < ((24 : Nat) : Int) := ⟨by omega, by omega⟩
  have zero : (∀ x, x < n → nbS n S 0 (gI n x y z t) = false) → ∀ x, x < 64 → tb (0 : Int) x = (decide (x < n) && nbS n S 0 (gI n x y z t)) := fun w x hx => by
    rw [tb_0]
    by_cases hxn : x < n
    · rw [w x hxn, Bool.and_false]
    · rw [decide_eq_false hxn, Bool.false_and]
  by_cases c0 : aC t = 0
  · -- across x
    have z0 : ((aC t : Nat) : Int) = 0 := by rw [c0]; rfl
    rw [if_pos z0, if_pos z0]
    have s0 : stpC t 0 = if hiC t then 1 else -1 := by unfold stpC; rw [c0]; rfl
    have s1 : stpC t 1 = 0 := by unfold stpC; rw [c0]; rfl
    have s2 : stpC t 2 = 0 := by unfold stpC; rw [c0]; rfl
    obtain ⟨r1, r2⟩ := rb z y hz hy
    refine ⟨⟨q1, q2, by split <;> exact r1⟩, fun x hx => ?_⟩
    cases hc : hiC t
    · have s0' : stpC t 0 = -1 := by rw [s0, hc]; rfl
      rw [if_neg (show ¬ (0 : Int) < (if false = true then (1 : Int) else -1) by decide), tb_and, tb_mask hn, show tb (sop64 121 (hv h (ad (rf a)) (Int.toNat (v238 n ((nxt t 0 : Nat) : Int) (z : Int) (y : Int)))) 1) x = (decide (1 ≤ x) && tb (hv h (ad (rf a)) (Int.toNat (v238 n ((nxt t 0 : Nat) : Int) (z : Int) (y : Int)))) (x - 1)) from tb_shl _ (k := 1) (by decide) hx, r2 _ (by omega)]
      by_cases hxn : x < n
      · rw [decide_eq_true hxn, Bool.and_true, Bool.true_and]
        by_cases h1 : 1 ≤ x
        · rw [decide_eq_true h1, decide_eq_true (show x - 1 < n by omega), Bool.true_and, Bool.true_and]
          exact (nbx x (x - 1) y z hxn (by rw [s0']; omega) (by rw [s1]; omega) (by rw [s2]; omega) (by omega) hy hz).symm
        · rw [decide_eq_false h1, Bool.false_and]
          exact (nbo x hxn (by rw [s0']; omega)).symm
      · rw [decide_eq_false hxn, Bool.and_false, Bool.false_and]
    · have s0' : stpC t 0 = 1 := by rw [s0, hc]; rfl
      rw [if_pos (show (0 : Int) < (if true = true then (1 : Int) else -1) by decide), show tb (sop64 125 (hv h (ad (rf a)) (Int.toNat (v238 n ((nxt t 0 : Nat) : Int) (z : Int) (y : Int)))) 1) x = tb (hv h (ad (rf a)) (Int.toNat (v238 n ((nxt t 0 : Nat) : Int) (z : Int) (y : Int)))) (1 + x) from tb_shr _ (k := 1) (by decide)]
      by_cases h63 : 1 + x < 64
      · rw [r2 _ h63]
        by_cases h1 : 1 + x < n
        · rw [decide_eq_true h1, decide_eq_true (show x < n by omega), Bool.true_and, Bool.true_and]
          exact (nbx x (1 + x) y z (by omega) (by rw [s0']; omega) (by rw [s1]; omega) (by rw [s2]; omega) h1 hy hz).symm
        · rw [decide_eq_false h1, Bool.false_and]
          by_cases hxn : x < n
          · rw [nbo x hxn (by rw [s0']; omega), Bool.and_false]
          · rw [decide_eq_false hxn, Bool.false_and]
      · rw [tb_big (by omega), decide_eq_false (show ¬ x < n by omega), Bool.false_and]
  · have z0 : ¬ ((aC t : Nat) : Int) = 0 := by omega
    rw [if_neg z0, if_neg z0]
    have s0 : stpC t 0 = 0 := by unfold stpC; rw [if_neg c0]
    by_cases c1' : aC t = 1
    · -- across y
      have z1 : ((aC t : Nat) : Int) = 1 := by rw [c1']; rfl
      rw [if_pos z1, if_pos z1]
      have s1 : stpC t 1 = if hiC t then 1 else -1 := by unfold stpC; rw [c1']; rfl
      have s2 : stpC t 2 = 0 := by unfold stpC; rw [c1']; rfl
      rw [add32 (by omega) (by omega)]
      by_cases w1 : (y : Int) + (if hiC t then (1 : Int) else -1) < 0
      · rw [if_pos w1, if_pos w1]
        exact ⟨⟨q1, q2, trivial⟩, zero (fun x hx => nbo x hx (by rw [s1]; omega))⟩
      · rw [if_neg w1, if_neg w1]
        by_cases w2 : (y : Int) + (if hiC t then (1 : Int) else -1) < (n : Int)
        · rw [if_pos w2, if_pos w2]
          obtain ⟨y', ey⟩ : ∃ y' : Nat, (y' : Int) = (y : Int) + (if hiC t then (1 : Int) else -1) := ⟨((y : Int) + (if hiC t then (1 : Int) else -1)).toNat, by omega⟩
          rw [← ey]
          have hy' : y' < n := by omega
          obtain ⟨r1, r2⟩ := rb z y' hz hy'
          refine ⟨⟨q1, q2, r1⟩, fun x hx => ?_⟩
          rw [r2 x hx]
          by_cases hxn : x < n
          · rw [nbx x x y' z hxn (by rw [s0]; omega) (by rw [s1]; exact ey) (by rw [s2]; omega) hxn hy' hz]
          · rw [decide_eq_false hxn, Bool.false_and, Bool.false_and]
        · rw [if_neg w2, if_neg w2]
          exact ⟨⟨q1, q2, trivial⟩, zero (fun x hx => nbo x hx (by rw [s1]; omega))⟩
    · -- across z
      have z1 : ¬ ((aC t : Nat) : Int) = 1 := by omega
      have c2' : aC t = 2 := by omega
      rw [if_neg z1, if_neg z1]
      have s1 : stpC t 1 = 0 := by unfold stpC; rw [c2']; rfl
      have s2 : stpC t 2 = if hiC t then 1 else -1 := by unfold stpC; rw [c2']; rfl
      rw [add32 (by omega) (by omega)]
      by_cases w1 : (z : Int) + (if hiC t then (1 : Int) else -1) < 0
      · rw [if_pos w1, if_pos w1]
        exact ⟨⟨q1, q2, trivial⟩, zero (fun x hx => nbo x hx (by rw [s2]; omega))⟩
      · rw [if_neg w1, if_neg w1]
        by_cases w2 : (z : Int) + (if hiC t then (1 : Int) else -1) < (n : Int)
        · rw [if_pos w2, if_pos w2]
          obtain ⟨z', ez⟩ : ∃ z' : Nat, (z' : Int) = (z : Int) + (if hiC t then (1 : Int) else -1) := ⟨((z : Int) + (if hiC t then (1 : Int) else -1)).toNat, by omega⟩
          rw [← ez]
          have hz' : z' < n := by omega
          obtain ⟨r1, r2⟩ := rb z' y hz' hy
          refine ⟨⟨q1, q2, r1⟩, fun x hx => ?_⟩
          rw [r2 x hx]
          by_cases hxn : x < n
          · rw [nbx x x y z' hxn (by rw [s0]; omega) (by rw [s1]; omega) (by rw [s2]; exact ez) hxn hy hz']
          · rw [decide_eq_false hxn, Bool.false_and, Bool.false_and]
        · rw [if_neg w2, if_neg w2]
          exact ⟨⟨q1, q2, trivial⟩, zero (fun x hx => nbo x hx (by rw [s2]; omega))⟩
/-- the area of the rows below K -/
def arR (n : Nat) (S : Nat → Bool) (f K : Nat) : Nat := cntR n (onK n (fun t z y x => bdF n S f (gI n x y z t))) K
def arK (n : Nat) (S : Nat → Bool) (p : Int) (K : Nat) : Nat := if p = 0 then arR n S 0 K else 2 * arR n S 1 K + arR n S 2 K + arR n S 3 K
theorem arR_le (hn : n ≤ 52) {f K : Nat} (hK : K ≤ 24 * n * n) : arR n S f K ≤ 3374592 := Nat.le_trans (cntR_le n _ K) (rows_n hn hK)
/-- one row's border at facet f -/
theorem row_ar (m : TbC B h) (hn : n ≤ 52) (s : SG n h a S) {t z y f : Nat} (ht : t < 24) (hz : z < n) (hy : y < n) (hf : f < 4) : ∃ c : Nat, v880 (bop64 127 (hv h a (rw3 n t z y)) (bop64 131 (v166 B n h (rf a) (t : Int) (f : Int) (z : Int) (y : Int)) (-1))) = (c : Int) ∧ arR n S f (rw3 n t z y + 1) = arR n S f (rw3 n t z y) + c := by
  refine ⟨_, rowCnt (r := onK n (fun t z y x => bdF n S f (gI n x y z t)) (rw3 n t z y)) hn (fun x hx => ?_), rfl⟩
  rw [tb_and, tb_not _ hx, (nb_is m hn s ht hz hy hf).2 x hx, s.bit ht hz hy hx, onK_at hz hy]
  show (_ && _ && !(_ && _)) = (_ && (_ && !_))
  cases decide (x < n) <;> rfl
theorem row_z (s : SG n h a S) {t z y f : Nat} (ht : t < 24) (hz : z < n) (hy : y < n) (z0 : hv h a (rw3 n t z y) = 0) (hn : n ≤ 52) : arR n S f (rw3 n t z y + 1) = arR n S f (rw3 n t z y) := by
  have : cntN (onK n (fun t z y x => bdF n S f (gI n x y z t)) (rw3 n t z y)) n = cntN (fun _ => false) n := cntN_congr n (fun x hx => by
    rw [onK_at hz hy]
    have := s.bit ht hz hy (show x < 64 by omega)
    rw [z0, tb_0, decide_eq_true hx, Bool.true_and] at this
    show (S _ && _) = false
    rw [← this]
    rfl)
  show arR n S f (rw3 n t z y) + cntN (onK n (fun t z y x => bdF n S f (gI n x y z t)) (rw3 n t z y)) n = _
  rw [this]
  have z : ∀ N, cntN (fun _ => false) N = 0 := fun N => by
    induction N with
    | zero => rfl
    | succ N ih => rw [cntN_s, ih]; rfl
  rw [z]
  rfl
end NB166
section AREA2
variable {gv : Nat → Int} {B n d : Nat} {h : AH} {is : Nat → Bool} {cl : Nat → Nat} {S : Nat → Nat → Bool} {o p : Int}
theorem c_area2 (l : LX B n h) (hd : 20 ≤ d) (hn0 : 0 < n) (hn : n ≤ 52) (m : TbC B h) (b : BdC B n h is cl S) :
    Opx 0 (cll PP (ev PP (gsF gv) B) d 2 [(2, rf (B + 0)), (0, o), (0, p)] h) (fun x h' => thS is o = true ∧ (0 ≤ p ∧ p ≤ 1) ∧ x = ((areaS n (S (rwS o)) p : Nat) : Int) ∧ h' = h) (fun c q => q = h ∧ ((c = 31 ∧ thS is o = false) ∨ (c = 27 ∧ thS is o = true ∧ ¬ (0 ≤ p ∧ p ≤ 1)))) := by
  refine Opx.inq (D := 19) hd (Nat.le_of_ble_eq_true rfl) rfl (fun d hd Q K KE => ?_)
  refine Ends.eq (b2_0 (n := n) (by (repeat' first | assumption | refine LX.setF _ _ ?_ (by decide +kernel) | refine LX.setS ?_ rfl | refine LX.setA ?_ (by first | assumption | omega))) (by first | assumption | omega)) ?_
  refine Ends.sol l (by omega) b (fun ho => ?_) (fun ho => Ends.thn rfl (KE _ _ ⟨rfl, Or.inl ⟨rfl, ho⟩⟩))
  refine Ends.eq (b2_5 (n := n) (by (repeat' first | assumption | refine LX.setF _ _ ?_ (by decide +kernel) | refine LX.setS ?_ rfl | refine LX.setA ?_ (by first | assumption | omega))) (by first | assumption | omega)) ?_
  refine Ends.need (p := decide (0 ≤ p ∧ p ≤ 1)) l (by omega) (by rw [v42_in]; simp only [decide_eq_true_eq]) (fun hp => ?_) (fun hp => Ends.thn rfl (KE _ _ ⟨rfl, Or.inr ⟨rfl, ho, of_decide_eq_false hp⟩⟩))
  have hp := of_decide_eq_true hp
  obtain ⟨s, s2, s3⟩ := b.sol l ho
  generalize ha : clS B cl o = a at *
  generalize hS : S (rwS o) = T at *
  have hN := rows_le hn
  have ka := s.1
  have le := fun f K (hK : K ≤ 24 * n * n) => arR_le (S := T) hn (f := f) hK
  have fin : arK n T p (24 * n * n) = areaS n T p := by
    unfold arK areaS arR arF
    rw [cntG hn0, cntG hn0, cntG hn0, cntG hn0]
  have ly : ∀ (t z : Nat), t < 24 → z < n → (∀ u7 u8 u9 u10, Ends (ev PP (gsF gv) B d 2 31 [(2, rf (B + 0)), (0, o), (0, p), (2, rf a), (0, ((arK n T p (rw3 n t (z + 1) 0) : Nat) : Int)), (0, (t : Int)), (0, ((z + 1 : Nat) : Int)), u7, u8, u9, u10] [] h) Q) → ∀ (c y : Nat) (u8 u9 u10 : AV), y + c = n → Ends (ev PP (gsF gv) B d 2 43 [(2, rf (B + 0)), (0, o), (0, p), (2, rf a), (0, ((arK n T p (rw3 n t z y) : Nat) : Int)), (0, (t : Int)), (0, (z : Int)), (0, (y : Int)), u8, u9, u10] [] h) Q := by
    intro t z ht hz nxt_ c
    induction c with
    | zero =>
      intro y u8 u9 u10 hy
      obtain rfl : n = y := by omega
      refine Ends.eq (b2_43 (n := n) (by (repeat' first | assumption | refine LX.setF _ _ ?_ (by decide +kernel) | refine LX.setS ?_ rfl | refine LX.setA ?_ (by first | assumption | omega))) (by first | assumption | omega)) ?_
      refine Ends.b3 (fun _ => ?_) (fun z => absurd z (by omega))
      rw [w_succ (by omega), ← rw3_z]
      exact nxt_ _ _ _ _
    | succ c ih =>
      intro y u8 u9 u10 hy
      have hyn : y < n := by omega
      have r1 := rw3_lt ht hz hyn
      have go : ∀ (x v8 : Int) (u9 u10 : AV), x = ((arK n T p (rw3 n t z (y + 1)) : Nat) : Int) → Ends (ev PP (gsF gv) B d 2 174 [(2, rf (B + 0)), (0, o), (0, p), (2, rf a), (0, x), (0, (t : Int)), (0, (z : Int)), (0, (y : Int)), (1, v8), u9, u10] [] h) Q := fun x v8 u9 u10 e => by
        refine Ends.eq (b2_174 (n := n) (by (repeat' first | assumption | refine LX.setF _ _ ?_ (by decide +kernel) | refine LX.setS ?_ rfl | refine LX.setA ?_ (by first | assumption | omega))) (by first | assumption | omega)) ?_
        rw [w_succ (by omega), e]
        exact ih (y + 1) _ u9 u10 (by omega)
      refine Ends.eq (b2_43 (n := n) (by (repeat' first | assumption | refine LX.setF _ _ ?_ (by decide +kernel) | refine LX.setS ?_ rfl | refine LX.setA ?_ (by first | assumption | omega))) (by first | assumption | omega)) ?_
      rw [row_eq hn ht hz hyn, tn, ad_rf, ka]
      refine Ends.b3 (fun z => absurd z (by omega)) (fun _ => Ends.g ⟨rf_pos a, rfl, by omega, by show _ < ((24 * n * n : Nat) : Int); omega⟩ ?_)
      have nz : ∀ (v : Int) (X Y : Option Rs), (v ≠ 0 → Ends X Q) → (v = 0 → Ends Y Q) → Ends (brc 1 (cmp64 v 0) 0 X Y) Q := fun v X Y k1 k2 => Ends.b1 (fun w => k1 (fun e => w (cmp64_z.mpr e))) (fun w => k2 (cmp64_z.mp w))
      refine nz _ _ _ (fun _ => ?_) (fun v0 => ?_)
      rotate_left
      · refine go _ _ _ _ ?_
        unfold arK
        rw [rw3_y, row_z s ht hz hyn v0 hn, row_z s ht hz hyn v0 hn, row_z s ht hz hyn v0 hn, row_z s ht hz hyn v0 hn]
      have g0 := (nb_is m hn s ht hz hyn (f := 0) (by decide)).1
      have g1 := (nb_is m hn s ht hz hyn (f := 1) (by decide)).1
      have g2 := (nb_is m hn s ht hz hyn (f := 2) (by decide)).1
      have g3 := (nb_is m hn s ht hz hyn (f := 3) (by decide)).1
      refine Ends.b1 (fun hp1 => ?_) (fun hp0 => ?_)
      rotate_left
      · obtain ⟨c0, e0, f0⟩ := row_ar m hn s ht hz hyn (f := 0) (by decide)
        have d0 := le 0 (rw3 n t z y + 1) (by omega)
        refine Ends.g g0 (go _ _ _ _ ?_)
        unfold arK
        rw [if_pos hp0, if_pos hp0, rw3_y, show v880 (bop64 127 (hv h a (rw3 n t z y)) (bop64 131 (v166 B n h (rf a) (t : Int) 0 (z : Int) (y : Int)) (-1))) = (c0 : Int) from e0, addNN (by omega), f0]
      · obtain ⟨c1, e1, f1⟩ := row_ar m hn s ht hz hyn (f := 1) (by decide)
        obtain ⟨c2, e2, f2⟩ := row_ar m hn s ht hz hyn (f := 2) (by decide)
        obtain ⟨c3, e3, f3⟩ := row_ar m hn s ht hz hyn (f := 3) (by decide)
        have d1 := le 1 (rw3 n t z y + 1) (by omega)
        have d2 := le 2 (rw3 n t z y + 1) (by omega)
        have d3 := le 3 (rw3 n t z y + 1) (by omega)
        rw [f1] at d1
        rw [f2] at d2
        rw [f3] at d3
        unfold arK at go ⊢
        rw [if_neg hp1] at go ⊢
        rw [rw3_y, f1, f2, f3] at go
        generalize arR n T 1 (rw3 n t z y) = A1 at *
        generalize arR n T 2 (rw3 n t z y) = A2 at *
        generalize arR n T 3 (rw3 n t z y) = A3 at *
        refine Ends.eq (b2_119 (by decide) l (by omega)) ?_
        refine Ends.b3 (fun z => absurd z (by decide)) (fun _ => Ends.g g1 ?_)
        rw [show v880 (bop64 127 (hv h a (rw3 n t z y)) (bop64 131 (v166 B n h (rf a) (t : Int) 1 (z : Int) (y : Int)) (-1))) = (c1 : Int) from e1, show bop32 104 (cond (tst 1 (1 : Int) 1) (1 : Int) 2) (c1 : Int) = ((2 * c1 : Nat) : Int) from mulNN (x := 2) (by omega), addNN (by omega), show w32 ((1 : Int) + 1) = 2 from rfl]
        refine Ends.eq (b2_119 (by decide) l (by omega)) ?_
        refine Ends.b3 (fun z => absurd z (by decide)) (fun _ => Ends.g g2 ?_)
        rw [show v880 (bop64 127 (hv h a (rw3 n t z y)) (bop64 131 (v166 B n h (rf a) (t : Int) 2 (z : Int) (y : Int)) (-1))) = (c2 : Int) from e2, show bop32 104 (cond (tst 1 (2 : Int) 1) (1 : Int) 2) (c2 : Int) = ((1 * c2 : Nat) : Int) from mulNN (x := 1) (by omega), addNN (by omega), show w32 ((2 : Int) + 1) = 3 from rfl]
        refine Ends.eq (b2_119 (by decide) l (by omega)) ?_
        refine Ends.b3 (fun z => absurd z (by decide)) (fun _ => Ends.g g3 ?_)
        rw [show v880 (bop64 127 (hv h a (rw3 n t z y)) (bop64 131 (v166 B n h (rf a) (t : Int) 3 (z : Int) (y : Int)) (-1))) = (c3 : Int) from e3, show bop32 104 (cond (tst 1 (3 : Int) 1) (1 : Int) 2) (c3 : Int) = ((1 * c3 : Nat) : Int) from mulNN (x := 1) (by omega), addNN (by omega), show w32 ((3 : Int) + 1) = 4 from rfl]
        refine Ends.eq (b2_119 (by decide) l (by omega)) ?_
        exact Ends.b3 (fun _ => go _ _ _ _ (congrArg (fun k : Nat => (k : Int)) (by omega))) (fun z => absurd z (by decide))
  have lz : ∀ (t : Nat), t < 24 → (∀ u6 u7 u8 u9 u10, Ends (ev PP (gsF gv) B d 2 21 [(2, rf (B + 0)), (0, o), (0, p), (2, rf a), (0, ((arK n T p (rw3 n (t + 1) 0 0) : Nat) : Int)), (0, ((t + 1 : Nat) : Int)), u6, u7, u8, u9, u10] [] h) Q) → ∀ (c z : Nat) (u7 u8 u9 u10 : AV), z + c = n → Ends (ev PP (gsF gv) B d 2 31 [(2, rf (B + 0)), (0, o), (0, p), (2, rf a), (0, ((arK n T p (rw3 n t z 0) : Nat) : Int)), (0, (t : Int)), (0, (z : Int)), u7, u8, u9, u10] [] h) Q := by
    intro t ht nxt_ c
    induction c with
    | zero =>
      intro z u7 u8 u9 u10 hz
      obtain rfl : n = z := by omega
      refine Ends.eq (b2_31 (n := n) (by (repeat' first | assumption | refine LX.setF _ _ ?_ (by decide +kernel) | refine LX.setS ?_ rfl | refine LX.setA ?_ (by first | assumption | omega))) (by first | assumption | omega)) ?_
      refine Ends.b3 (fun _ => ?_) (fun z => absurd z (by omega))
      rw [w_succ (by omega), ← rw3_t]
      exact nxt_ _ _ _ _ _
    | succ c ih =>
      intro z u7 u8 u9 u10 hz
      refine Ends.eq (b2_31 (n := n) (by (repeat' first | assumption | refine LX.setF _ _ ?_ (by decide +kernel) | refine LX.setS ?_ rfl | refine LX.setA ?_ (by first | assumption | omega))) (by first | assumption | omega)) ?_
      refine Ends.b3 (fun w => absurd w (by omega)) (fun _ => ?_)
      exact ly t z ht (by omega) (fun u7 u8 u9 u10 => ih (z + 1) u7 u8 u9 u10 (by omega)) n 0 u8 u9 u10 (Nat.zero_add n)
  have lt : ∀ (c t : Nat) (u6 u7 u8 u9 u10 : AV), t + c = 24 → Ends (ev PP (gsF gv) B d 2 21 [(2, rf (B + 0)), (0, o), (0, p), (2, rf a), (0, ((arK n T p (rw3 n t 0 0) : Nat) : Int)), (0, (t : Int)), u6, u7, u8, u9, u10] [] h) Q := by
    intro c
    induction c with
    | zero =>
      intro t u6 u7 u8 u9 u10 ht
      obtain rfl : t = 24 := by omega
      refine Ends.eq (b2_21 (n := n) (by (repeat' first | assumption | refine LX.setF _ _ ?_ (by decide +kernel) | refine LX.setS ?_ rfl | refine LX.setA ?_ (by first | assumption | omega))) (by first | assumption | omega)) ?_
      refine Ends.b3 (fun _ => Ends.sm (K _ _ ⟨ho, hp, ?_, rfl⟩)) (fun z => absurd z (by omega))
      rw [← fin]
      unfold rw3
      rw [Nat.add_zero, Nat.add_zero]
    | succ c ih =>
      intro t u6 u7 u8 u9 u10 ht
      refine Ends.eq (b2_21 (n := n) (by (repeat' first | assumption | refine LX.setF _ _ ?_ (by decide +kernel) | refine LX.setS ?_ rfl | refine LX.setA ?_ (by first | assumption | omega))) (by first | assumption | omega)) ?_
      refine Ends.b3 (fun w => absurd w (by omega)) (fun _ => ?_)
      exact lz t (by omega) (fun u6 u7 u8 u9 u10 => ih (t + 1) u6 u7 u8 u9 u10 (by omega)) n 0 u7 u8 u9 u10 (Nat.zero_add n)
  refine Ends.eq (b2_15 (n := n) (by (repeat' first | assumption | refine LX.setF _ _ ?_ (by decide +kernel) | refine LX.setS ?_ rfl | refine LX.setA ?_ (by first | assumption | omega))) (by first | assumption | omega)) ?_
  have := lt 24 0 (9, 0) (9, 0) (9, 0) (9, 0) (9, 0) rfl
  rw [show rw3 n 0 0 0 = 0 from by unfold rw3; simp, show arK n T p 0 = 0 from by unfold arK; split <;> rfl] at this
  exact this
end AREA2
section AREA548
variable {gv : Nat → Int} {B n d : Nat} {h : AH} {is : Nat → Bool} {S : Nat → Nat → Bool} {T : Nat → Bool} {o p : Int}
/-- the model's sum over facets below k -/
def arM (n : Nat) (T : Nat → Bool) (p : Int) : Nat → Nat
  | 0 => 0
  | k + 1 => arM n T p k + if bdr n T k = true then (if p = 0 then (if k % 4 = 0 then 1 else 0) else (if k % 4 = 0 then 0 else if k % 4 = 1 then 2 else 1)) else 0
theorem arM_le : ∀ k, arM n T p k ≤ 2 * k
  | 0 => Nat.le_refl 0
  | k + 1 => by
    unfold arM
    have := arM_le k
    split
    · split <;> split <;> (try split) <;> omega
    · omega
theorem arM_4 : ∀ G, arM n T p (4 * G) = if p = 0 then cntN (bdF n T 0) G else 2 * cntN (bdF n T 1) G + cntN (bdF n T 2) G + cntN (bdF n T 3) G
  | 0 => by split <;> rfl
  | G + 1 => by
    have e0 : bdr n T (4 * G) = bdF n T 0 G := bdr_F (g := G) (f := 0) (by decide)
    have e1 : bdr n T (4 * G + 1) = bdF n T 1 G := bdr_F (g := G) (f := 1) (by decide)
    have e2 : bdr n T (4 * G + 2) = bdF n T 2 G := bdr_F (g := G) (f := 2) (by decide)
    have e3 : bdr n T (4 * G + 3) = bdF n T 3 G := bdr_F (g := G) (f := 3) (by decide)
    rw [show 4 * (G + 1) = 4 * G + 3 + 1 from rfl]
    rw [arM, arM, arM, arM, arM_4 G, e0, e1, e2, e3, cntN_s, cntN_s, cntN_s, cntN_s, show 4 * G % 4 = 0 by omega, show (4 * G + 1) % 4 = 1 by omega, show (4 * G + 2) % 4 = 2 by omega, show (4 * G + 3) % 4 = 3 by omega]
    by_cases hp : p = 0
    · simp only [if_pos hp]
      cases bdF n T 0 G <;> cases bdF n T 1 G <;> cases bdF n T 2 G <;> cases bdF n T 3 G <;> simp
    · simp only [if_neg hp]
      cases bdF n T 0 G <;> cases bdF n T 1 G <;> cases bdF n T 2 G <;> cases bdF n T 3 G <;> simp <;> omega
theorem c_area548 (l : LX B n h) (hd : 14 ≤ d) (hn0 : 0 < n) (hn : n ≤ 52) (m : TbM B h) (b : BdM B n h is S) :
    Vt 0 (cll PP (ev PP (gsF gv) B) d 548 [(2, rf (B + 149)), (0, o), (0, p)] h) (fun x h' => (thS is o = false ∧ MdA B h 1 x h') ∨ (thS is o = true ∧ ¬ (0 ≤ p ∧ p ≤ 1) ∧ MdA B h 2 x h') ∨ (thS is o = true ∧ (0 ≤ p ∧ p ≤ 1) ∧ x = ((areaS n (S (rwS o)) p : Nat) : Int) ∧ h' = hset h (B + 149) 0 0)) := by
  have hb0 := l.2.2
  refine Vt.inq (D := 13) hd (Nat.le_of_ble_eq_true rfl) rfl (fun d hd P K => ?_)
  refine Ends.eq (b548_0 (n := n) (by (repeat' first | assumption | refine LX.setF _ _ ?_ (by decide +kernel) | refine LX.setS ?_ rfl | refine LX.setA ?_ (by first | assumption | omega))) (by first | assumption | omega)) ?_
  obtain ⟨v1, v2⟩ := v765_is (o := o) (fun i hi => (b.1 i hi).1)
  refine Ends.g v1 ?_
  rw [v2, ct0, ct2, ct5]
  have bad : ∀ (c : Nat), c ≠ 0 → P ((0, (0, 0)), hset h (B + 149) 0 (c : Int)) → Ends (ev PP (gsF gv) B d 548 30 [(2, rf (B + 149)), (0, o), (0, p), (9, 0), (9, 0), (9, 0)] [(0, 1)] (hset h (B + 149) 0 (c : Int))) P := fun c hc q => by
    have l2 : LX B n (hset h (B + 149) 0 (c : Int)) := LX.setF 149 0 l (by decide +kernel)
    refine Ends.eq (b548_30 (n := n) (by (repeat' first | assumption | refine LX.setF _ _ ?_ (by decide +kernel) | refine LX.setS ?_ rfl | refine LX.setA ?_ (by first | assumption | omega))) (by first | assumption | omega)) ?_
    exact Ends.b0 (fun z => absurd z (by decide)) (fun _ => Ends.sm q)
  cases ho : thS is o
  · rw [if_neg (show ¬ (if false = true then (0 : Int) else 1) = 0 by decide)]
    exact Ends.mbad l (by omega) (c := 1) (by decide) rfl (bad 1 (by decide) (K _ _ (Or.inl ⟨ho, rfl, rfl⟩)))
  rw [if_pos (show (if true = true then (0 : Int) else 1) = 0 by decide)]
  by_cases hp : 0 ≤ p ∧ p ≤ 1
  rotate_left
  · rw [show (if p < 0 then (2 : Int) else if 1 < p then 2 else 0) = ((2 : Nat) : Int) from by
      by_cases w : p < 0
      · rw [if_pos w]; rfl
      · rw [if_neg w, if_pos (by omega)]; rfl]
    exact Ends.mbad l (by omega) (c := 2) (by decide) rfl (bad 2 (by decide) (K _ _ (Or.inr (Or.inl ⟨ho, hp, rfl, rfl⟩))))
  rw [if_neg (show ¬ p < 0 by omega), if_neg (show ¬ 1 < p by omega)]
  refine Ends.mok l (by omega) rfl ?_
  have l2 : LX B n (hset h (B + 149) 0 0) := LX.setF 149 0 l (by decide +kernel)
  obtain ⟨s1, s2⟩ := (b.fset 0 0).sol ho
  have m2 : TbM B (hset h (B + 149) 0 0) := m.agr (Agr.rf.set (W := fun c k => c = B + 149 ∧ k = 0) ⟨rfl, rfl⟩) (fun c k a1 a2 a3 w => by omega)
  have fin : arM n (S (rwS o)) p (4 * gN n) = areaS n (S (rwS o)) p := by
    rw [arM_4]
    rfl
  have K2 := fun x e => K x (hset h (B + 149) 0 0) (Or.inr (Or.inr ⟨ho, hp, e, rfl⟩))
  rw [← fin] at K2
  clear fin K bad
  have hg := gN_le2 hn
  generalize hset h (B + 149) 0 0 = h2 at *
  generalize S (rwS o) = T at *
  refine Ends.eq (b548_30 (n := n) (by (repeat' first | assumption | refine LX.setF _ _ ?_ (by decide +kernel) | refine LX.setS ?_ rfl | refine LX.setA ?_ (by first | assumption | omega))) (by first | assumption | omega)) ?_
  refine Ends.b0 (fun _ => ?_) (fun z => absurd rfl z)
  have lp : ∀ (c k : Nat) (u5 : AV), k + c = 4 * gN n → Ends (ev PP (gsF gv) B d 548 40 [(2, rf (B + 149)), (0, o), (0, p), (0, ((arM n T p k : Nat) : Int)), (0, (k : Int)), u5] [] h2) P := by
    intro c
    induction c with
    | zero =>
      intro k u5 hk
      refine Ends.eq (b548_40 (n := n) (by (repeat' first | assumption | refine LX.setF _ _ ?_ (by decide +kernel) | refine LX.setS ?_ rfl | refine LX.setA ?_ (by first | assumption | omega))) (by first | assumption | omega)) ?_
      rw [show bop32 104 (4 : Int) ((gN n : Nat) : Int) = ((4 * gN n : Nat) : Int) from mulNN (x := 4) (by omega)]
      exact Ends.b3 (fun _ => Ends.sm (K2 _ (by rw [show k = 4 * gN n by omega]))) (fun z => absurd z (by omega))
    | succ c ih =>
      intro k u5 hk
      have hk4 : k < 4 * gN n := by omega
      have le := arM_le (n := n) (T := T) (p := p) k
      have le1 := arM_le (n := n) (T := T) (p := p) (k + 1)
      obtain ⟨b1, b2⟩ := bdr_is m2 hn (by omega) s1 hk4
      refine Ends.eq (b548_40 (n := n) (by (repeat' first | assumption | refine LX.setF _ _ ?_ (by decide +kernel) | refine LX.setS ?_ rfl | refine LX.setA ?_ (by first | assumption | omega))) (by first | assumption | omega)) ?_
      rw [show bop32 104 (4 : Int) ((gN n : Nat) : Int) = ((4 * gN n : Nat) : Int) from mulNN (x := 4) (by omega), v806_is ho]
      refine Ends.b3 (fun z => absurd z (by omega)) (fun _ => Ends.g b1 ?_)
      rw [b2]
      have step : ∀ (x : Int) (u5 : AV), x = ((arM n T p (k + 1) : Nat) : Int) → Ends (ev PP (gsF gv) B d 548 113 [(2, rf (B + 149)), (0, o), (0, p), (0, x), (0, (k : Int)), u5] [] h2) P := fun x u5 e => by
        refine Ends.eq (b548_113 (n := n) (by (repeat' first | assumption | refine LX.setF _ _ ?_ (by decide +kernel) | refine LX.setS ?_ rfl | refine LX.setA ?_ (by first | assumption | omega))) (by first | assumption | omega)) ?_
        rw [w_succ (by omega), e]
        exact ih (k + 1) u5 (by omega)
      have up : arM n T p (k + 1) = arM n T p k + if bdr n T k = true then (if p = 0 then (if k % 4 = 0 then 1 else 0) else (if k % 4 = 0 then 0 else if k % 4 = 1 then 2 else 1)) else 0 := rfl
      cases hb : bdr n T k
      · rw [hb] at up
        exact Ends.b1 (fun z => absurd rfl z) (fun _ => step _ _ (by rw [up]; rfl))
      · rw [hb] at up
        refine Ends.b1 (fun _ => ?_) (fun z => absurd z (by decide))
        have le2 : arM n T p k + (if p = 0 then if k % 4 = 0 then 1 else 0 else if k % 4 = 0 then 0 else if k % 4 = 1 then 2 else 1) < 2147483648 := by rw [up, if_pos rfl] at le1; omega
        have d2 : bop32 112 (k : Int) 4 = ((k % 4 : Nat) : Int) := modNN (y := 4) (by decide) (by decide)
        refine step _ _ ?_
        rw [d2, up, if_pos rfl]
        simp only [ct1]
        have i0 : (((k % 4 : Nat) : Int) = 0) = (k % 4 = 0) := propext ⟨fun e => Int.ofNat.inj e, fun e => congrArg Int.ofNat e⟩
        have i1 : (((k % 4 : Nat) : Int) = 1) = (k % 4 = 1) := propext ⟨fun e => Int.ofNat.inj e, fun e => congrArg Int.ofNat e⟩
        simp only [i0, i1]
        have w : (if p = 0 then if k % 4 = 0 then (1 : Int) else 0 else if k % 4 = 0 then 0 else if k % 4 = 1 then 2 else 1) = (((if p = 0 then if k % 4 = 0 then 1 else 0 else if k % 4 = 0 then 0 else if k % 4 = 1 then 2 else 1) : Nat) : Int) := by
          split <;> split <;> (try split) <;> rfl
        rw [w]
        exact addNN le2
  exact lp (4 * gN n) 0 _ (Nat.zero_add _)
end AREA548
