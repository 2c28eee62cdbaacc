/-! L3: sums over the grains, by rows and by number; sums over the bits of a row -/
section SUMS
variable {n : Nat} {f g w : Nat → Nat}
theorem sumN_congr : ∀ N, (∀ i, i < N → f i = g i) → sumN f N = sumN g N
  | 0, _ => rfl
  | N + 1, h => by
    show sumN f N + f N = sumN g N + g N
    rw [sumN_congr N (fun i hi => h i (by omega)), h N (by omega)]
theorem sumN_app (a : Nat) : ∀ b, sumN f (a + b) = sumN f a + sumN (fun i => f (a + i)) b
  | 0 => rfl
  | b + 1 => by
    show sumN f (a + b) + f (a + b) = sumN f a + (sumN (fun i => f (a + i)) b + f (a + b))
    rw [sumN_app a b]
    omega
theorem sumN_prod (b : Nat) : ∀ a, sumN f (a * b) = sumN (fun i => sumN (fun j => f (i * b + j)) b) a
  | 0 => by rw [Nat.zero_mul]; rfl
  | a + 1 => by
    rw [Nat.succ_mul, sumN_app, sumN_prod b a]
    rfl
theorem sumN_swap {F : Nat → Nat → Nat} (b : Nat) : ∀ a, sumN (fun i => sumN (F i) b) a = sumN (fun j => sumN (fun i => F i j) a) b
  | 0 => by
    show 0 = sumN (fun _ => 0) b
    rw [sumN_c, Nat.zero_mul]
  | a + 1 => by
    show sumN (fun i => sumN (F i) b) a + sumN (F a) b = sumN (fun j => sumN (fun i => F i j) a + F a j) b
    rw [sumN_swap b a, sumN_add]
theorem sumN_cnt {P : Nat → Bool} {c : Nat} : ∀ N, sumN (fun x => if P x = true then c else 0) N = cntN P N * c
  | 0 => (Nat.zero_mul c).symm
  | N + 1 => by
    show sumN (fun x => if P x = true then c else 0) N + (if P N = true then c else 0) = _
    rw [sumN_cnt N, cntN_s, Nat.add_mul]
    cases P N
    · exact congrArg _ (Nat.zero_mul c).symm
    · exact congrArg _ (Nat.one_mul c).symm
theorem sumN_at {P : Nat → Bool} {k : Nat} (hP : P k = true) : ∀ N, k < N → sumN (fun x => if P x = true then w x else 0) N = w k + sumN (fun x => if (decide (x ≠ k) && P x) = true then w x else 0) N
  | 0, h => absurd h (by omega)
  | N + 1, h => by
    show sumN (fun x => if P x = true then w x else 0) N + (if P N = true then w N else 0) = w k + (sumN (fun x => if (decide (x ≠ k) && P x) = true then w x else 0) N + (if (decide (N ≠ k) && P N) = true then w N else 0))
    by_cases e : N = k
    · rw [e, hP, if_pos rfl, decide_eq_false (show ¬ k ≠ k from fun z => z rfl), Bool.false_and, if_neg Bool.false_ne_true]
      rw [sumN_congr (g := fun x => if (decide (x ≠ k) && P x) = true then w x else 0) k (fun i hi => by
        show _ = (if (decide (i ≠ k) && P i) = true then w i else 0)
        rw [decide_eq_true (show i ≠ k by omega), Bool.true_and])]
      omega
    · rw [sumN_at hP N (by omega), decide_eq_true e, Bool.true_and]
      omega
/-- the sum over row k -/
def rwW (n : Nat) (w : Nat → Nat) (k : Nat) : Nat := sumN (fun x => w (gI n x (k % n) (k / n % n) (k / (n * n)))) n
theorem rwW_at {t z y : Nat} (hz : z < n) (hy : y < n) : rwW n w (rw3 n t z y) = sumN (fun x => w (gI n x y z t)) n := by
  unfold rwW
  rw [dec_t hz hy, dec_z hz hy, dec_y hy]
theorem sumG : sumN (rwW n w) (24 * n * n) = sumN w (gN n) := by
  have e1 : sumN (rwW n w) (24 * n * n) = sumN (fun t => sumN (fun z => sumN (fun y => sumN (fun x => w (gI n x y z t)) n) n) n) 24 := by
    rw [sumN_prod n (24 * n), sumN_prod n 24]
    refine sumN_congr 24 (fun t ht => sumN_congr n (fun z hz => sumN_congr n (fun y hy => ?_)))
    exact rwW_at hz hy
  have e2 : sumN w (gN n) = sumN (fun z => sumN (fun y => sumN (fun x => sumN (fun t => w (gI n x y z t)) 24) n) n) n := by
    rw [show gN n = n * n * n * 24 from by unfold gN; rw [Nat.mul_assoc 24 n n, Nat.mul_assoc 24 (n * n) n, Nat.mul_comm], sumN_prod 24 (n * n * n), sumN_prod n (n * n), sumN_prod n n]
    refine sumN_congr n (fun z hz => sumN_congr n (fun y hy => sumN_congr n (fun x hx => sumN_congr 24 (fun t ht => ?_))))
    show w (((z * n + y) * n + x) * 24 + t) = w (24 * ((z * n + y) * n + x) + t)
    rw [Nat.mul_comm]
  have e3 : sumN (fun z => sumN (fun y => sumN (fun x => sumN (fun t => w (gI n x y z t)) 24) n) n) n = sumN (fun z => sumN (fun y => sumN (fun t => sumN (fun x => w (gI n x y z t)) n) 24) n) n := sumN_congr n (fun z hz => sumN_congr n (fun y hy => sumN_swap (F := fun x t => w (gI n x y z t)) 24 n))
  have e4 : sumN (fun z => sumN (fun y => sumN (fun t => sumN (fun x => w (gI n x y z t)) n) 24) n) n = sumN (fun z => sumN (fun t => sumN (fun y => sumN (fun x => w (gI n x y z t)) n) n) 24) n := sumN_congr n (fun z hz => sumN_swap (F := fun y t => sumN (fun x => w (gI n x y z t)) n) 24 n)
  rw [e1, e2, e3, e4]
  exact (sumN_swap (F := fun z t => sumN (fun y => sumN (fun x => w (gI n x y z t)) n) n) 24 n).symm
/-- the sum over the bits of v -/
def btW (n : Nat) (w : Nat → Nat) (v : Int) : Nat := sumN (fun x => if tb v x = true then w x else 0) n
theorem btW_low {v : Int} {k : Nat} (l : Low v k) (hk : k < n) : btW n w v = w k + btW n w (bop64 127 v (bop64 101 v 1)) := by
  unfold btW
  rw [sumN_at (P := tb v) l.2.1 n hk]
  refine congrArg _ (sumN_congr n (fun i hi => ?_))
  rw [l.less i]
theorem btW_0 : btW n w 0 = 0 := by
  unfold btW
  rw [sumN_congr (g := fun _ => 0) n (fun i hi => by rw [tb_0, if_neg Bool.false_ne_true]), sumN_c, Nat.zero_mul]
/-- a loop over the bits of v, from the lowest -/
theorem bits_ind {C : Int → Prop} (h0 : C 0) (h1 : ∀ (v : Int) (k : Nat), cn 1 v → v ≠ 0 → Low v k → C (bop64 127 v (bop64 101 v 1)) → C v) : ∀ (c : Nat) (v : Int), cn 1 v → cntN (tb v) 64 = c → C v := by
  intro c
  induction c with
  | zero =>
    intro v hv e
    have : v = 0 := (tb_z hv).mpr (fun i hi => cntN_zero 64 e i hi)
    rw [this]
    exact h0
  | succ c ih =>
    intro v hv e
    have nz : v ≠ 0 := fun z => by
      rw [z, show cntN (tb 0) 64 = cntN (fun _ => false) 64 from cntN_congr 64 (fun i hi => tb_0 i), show cntN (fun _ => false) 64 = 0 from by decide] at e
      omega
    obtain ⟨k, lo⟩ := Low.ex hv nz
    refine h1 v k hv nz lo (ih _ cn_bop64 ?_)
    have := cntN_rem (S := tb v) (a := k) lo.2.1 (N := 64) lo.1
    rw [cntN_congr (g := fun i => tb v i && !decide (i = k)) 64 (fun i hi => by
      rw [lo.less i]
      by_cases z : i = k
      · rw [decide_eq_true z, decide_eq_false (show ¬ i ≠ k from fun y => y z), Bool.not_true, Bool.and_false, Bool.false_and]
      · rw [decide_eq_false z, decide_eq_true z, Bool.not_false, Bool.and_true, Bool.true_and])]
    omega
end SUMS
section GCD654
variable {gv : Nat → Int} {B n d : Nat} {h : AH}
theorem c_gcd654 (l : LX B n h) (hd : 10 ≤ d) {a b : Nat} (h1 : (a : Int) ≤ 4611686018427387904) (h2 : (b : Int) ≤ 4611686018427387904) : Vt 1 (cll PP (ev PP (gsF gv) B) d 654 [(1, (a : Int)), (1, (b : Int))] h) (fun v h' => v = ((Nat.gcd a b : Nat) : Int) ∧ h' = h) := by
  refine Vt.inq (D := 9) hd (Nat.le_of_ble_eq_true rfl) rfl (fun d hd Q K => ?_)
  refine Ends.eq (b654_0 (n := n) (by decide) l (by omega)) ?_
  rw [ct3, ct3, if_neg (show ¬ cmp64 (a : Int) 0 < 0 from fun z => by have := cmp64_neg.mp z; omega), if_neg (show ¬ cmp64 (b : Int) 0 < 0 from fun z => by have := cmp64_neg.mp z; omega)]
  have key : ∀ (N x y : Nat) (u1 u3 u5 u7 u8 u9 : AV), ¬ u3.1 = 1 → ¬ u7.1 = 1 → y ≤ N → (x : Int) ≤ 4611686018427387904 → (y : Int) ≤ 4611686018427387904 → Nat.gcd x y = Nat.gcd a b → Ends (ev PP (gsF gv) B d 654 28 [(1, (a : Int)), u1, (1, (b : Int)), u3, (1, (x : Int)), u5, (1, (y : Int)), u7, u8, u9] [] h) Q := by
    intro N
    induction N with
    | zero =>
      intro x y u1 u3 u5 u7 u8 u9 k3 k7 hy hx1 hy1 e
      obtain rfl : y = 0 := by omega
      refine Ends.eq (b654_28 (n := n) k3 k7 l (by omega)) ?_
      rw [Nat.gcd_zero_right] at e
      exact Ends.b5 (fun _ => Ends.sm (K _ _ ⟨by rw [e], rfl⟩)) (fun z => absurd z (by decide))
    | succ N ih =>
      intro x y u1 u3 u5 u7 u8 u9 k3 k7 hy hx1 hy1 e
      refine Ends.eq (b654_28 (n := n) k3 k7 l (by omega)) ?_
      by_cases y0 : y = 0
      · subst y0
        rw [Nat.gcd_zero_right] at e
        exact Ends.b5 (fun _ => Ends.sm (K _ _ ⟨by rw [e], rfl⟩)) (fun z => absurd z (by decide))
      · refine Ends.b5 (fun z => ?_) (fun _ => Ends.g (by omega) ?_)
        · have := cmp64_pos.mpr (show (0 : Int) < (y : Int) by omega)
          exact absurd z (by omega)
        · rw [lmod hy1 (by omega)]
          have hlt : x % y < y := Nat.mod_lt _ (by omega)
          refine ih y (x % y) _ _ _ _ _ _ k3 (by decide) (by omega) hy1 (by omega) ?_
          rw [← e, Nat.gcd_comm y, ← Nat.gcd_rec]
          exact Nat.gcd_comm ..
  exact key b a b _ _ _ _ _ _ (by decide) (by decide) (Nat.le_refl _) h1 h2 rfl
end GCD654
