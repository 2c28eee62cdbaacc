/-! L3: Rows.unitePrism -/
/-- quarters of squares in cell b: quarter q, row v, bit u -/
def Qua (n : Nat) (h : AH) (b : Nat) (Q : Nat → Nat → Nat → Bool) : Prop := hk h b = (3, 4 * n) ∧ ∀ q v, q < 4 → v < n → cn 1 (hv h b (q * n + v)) ∧ ∀ x, x < 64 → tb (hv h b (q * n + v)) x = (decide (x < n) && Q q v x)
theorem Qua.fr {n b : Nat} {h h' : AH} {Q : Nat → Nat → Nat → Bool} {A : Nat → Prop} (s : Qua n h b Q) (f : Fr A h h') (hb : ¬ A b) : Qua n h' b Q := by
  refine ⟨by rw [f.2.1]; exact s.1, fun q v hq hv => ?_⟩
  rw [f.1 b hb]
  exact s.2 q v hq hv
def prM (Q : Nat → Nat → Nat → Bool) (ax : Nat) (fr to : Int) (t z y x : Nat) : Bool := match ax with
  | 0 => decide (fr ≤ (x : Int) ∧ (x : Int) < to) && Q (quT 0 t) z y
  | 1 => decide (fr ≤ (y : Int) ∧ (y : Int) < to) && Q (quT 1 t) z x
  | _ => decide (fr ≤ (z : Int) ∧ (z : Int) < to) && Q (quT 2 t) y x
def prG (n : Nat) (Q : Nat → Nat → Nat → Bool) (ax : Nat) (fr to : Int) (g : Nat) : Bool := prM Q ax fr to (gSo g) (gZ n g) (gY n g) (gX n g)
theorem quT_lt : ∀ t : Fin 24, ∀ a : Fin 3, quT a t < 4 := by decide +kernel
theorem span0 : ∀ m : Fin 53, ∀ j : Fin 64, tb (bop64 101 (sop64 121 1 ((m : Nat) : Int)) 1) j = decide ((j : Nat) < m) := by decide +kernel
theorem span_bits {lo hi : Nat} (h1 : lo < hi) (h2 : hi ≤ 52) {x : Nat} (hx : x < 64) : tb (sop64 121 (cond (tst 1 (((hi - lo : Nat) : Int)) 64) (bop64 101 (sop64 121 1 ((hi - lo : Nat) : Int)) 1) (-1)) (lo : Int)) x = decide (lo ≤ x ∧ x < hi) := by
  have e : tst 1 (((hi - lo : Nat) : Int)) 64 = true := by rw [tst1]; simp; omega
  rw [e, tb_shl _ (by omega) hx]
  have := span0 ⟨hi - lo, by omega⟩ ⟨x - lo, by omega⟩
  dsimp only at this
  simp only [cond_true]
  rw [this, Bool.eq_iff_iff]
  simp only [Bool.and_eq_true, decide_eq_true_eq]
  omega
section PRISM
variable {gv : Nat → Int} {B n d a b : Nat} {h : AH} {S : Nat → Bool} {R : Nat → Nat → Bool} {Q : Nat → Nat → Nat → Bool}
theorem q_lt {q v : Nat} (hq : q < 4) (hv : v < n) : q * n + v < 4 * n := by
  have := Nat.mul_le_mul_right n (show q ≤ 3 by omega)
  omega
set_option maxHeartbeats 4000000 in
theorem c_prismR (l : LX B n h) (hd : 10 ≤ d) (hn0 : 0 < n) (hn : n ≤ 52) (m : TbC B h) (sa : Sol n h a R) (qb : Qua n h b Q) (hab : b ≠ a) (hB : B ≤ a) (ha : a = B + 117 ∨ B + 246 ≤ a) {ax : Nat} (hax : ax < 3) {fr to : Int} (bf : -100000 ≤ fr ∧ fr ≤ 100000) (bt : -100000 ≤ to ∧ to ≤ 100000) :
    Vd (cll PP (ev PP (gsF gv) B) d 362 [(2, rf (B + 51)), (2, rf a), (2, rf b), (0, (ax : Int)), (0, fr), (0, to)] h) (fun h' => Fr (fun c => c = a) h h' ∧ Sol n h' a (fun k x => R k x || onK n (prM Q ax fr to) k x)) := by
  have hN := rows_le hn
  have ka := sa.1
  obtain ⟨lo, elo⟩ : ∃ lo : Nat, lo = fr.toNat := ⟨_, rfl⟩
  obtain ⟨hi, ehi⟩ : ∃ hi : Nat, hi = (if to < (n : Int) then to else n).toNat := ⟨_, rfl⟩
  have e1 : v891 0 fr = (lo : Int) := by rw [max0, elo]
  have rng : ∀ c : Nat, c < n → ((fr ≤ (c : Int) ∧ (c : Int) < to) ↔ lo ≤ c ∧ c < hi) := fun c hc => by rw [elo, ehi]; split <;> omega
  have lx : ∀ {s : AH} {p : Nat}, Uni n h a R (onK n (prM Q ax fr to)) s p → LX B n s := fun u => l.fr u.1 (fun c hc => by rw [hc, ka]; exact (by decide : 2 ≤ 3))
  have z0 : rw3 n 0 0 0 = 0 := by unfold rw3; simp
  have t24 : rw3 n 24 0 0 = 24 * n * n := by unfold rw3; rw [Nat.add_zero, Nat.add_zero]
  refine Vd.into (D := 9) hd (Nat.le_of_ble_eq_true rfl) rfl (fun d hd => Ends.eq (b362_0 l hd) ?_)
  rw [e1]
  have e2 : v892 (n : Int) to = if to < (n : Int) then to else n := by unfold v892; rw [tst4]; by_cases q : to < (n : Int) <;> simp [q]
  rw [e2]
  refine Ends.b2 (fun hlt => ?_) (fun hge => ?_)
  · have e3 : (if to < (n : Int) then to else n) = (hi : Int) := by rw [ehi]; split <;> omega
    have hin : hi ≤ n := by rw [ehi]; split <;> omega
    have hlh : lo < hi := by rw [e3] at hlt; omega
    rw [e3, show bop32 100 (hi : Int) (lo : Int) = ((hi - lo : Nat) : Int) from subNN (by omega) (by omega)]
    have sb := @span_bits lo hi hlh (by omega)
    generalize sop64 121 (cond (tst 1 (((hi - lo : Nat) : Int)) 64) (bop64 101 (sop64 121 1 ((hi - lo : Nat) : Int)) 1) (-1)) (lo : Int) = sp at *
    refine lp (24) (fun t L q => ∃ u11 u12 u13 u14 u15 : AV, L = [(2, rf (B + 51)), (2, (rf a)), (2, (rf b)), (0, ((ax : Int))), (0, fr), (0, to), (0, ((lo : Int))), (0, ((hi : Int))), (1, sp), ((9, 0)), (0, ((t : Int))), u11, u12, u13, u14, u15] ∧ LX B n q ∧ t ≤ 24 ∧ Uni n h a R (onK n (prM Q ax fr to)) q (rw3 n t 0 0)) ?_ ?_ (0) ⟨_, _, _, _, _, rfl, (by (repeat' first | assumption | refine LX.setF _ _ ?_ (by decide +kernel) | refine LX.setS ?_ rfl | refine LX.setA ?_ (by assumption))), by omega, ?_⟩
    · rintro t _ q ht ⟨uq0, uq1, uq2, uq3, uq4, rfl, lq, htN, uq⟩ iht
      have mq := m.fr uq.1 (fun c h1 h2 => by omega)
      have qu := (mq.1 t ht).2.2.2.2.2.2.2 ax hax
      have hq4 : quT ax t < 4 := quT_lt ⟨t, ht⟩ ⟨ax, hax⟩
      have qn : quT ax t * n ≤ 3 * n := Nat.mul_le_mul_right n (by omega)
      have nt : ∀ (x11 x12 : Int) (u13 u14 u15 : AV) (q2 : AH), LX B n q2 → Uni n h a R (onK n (prM Q ax fr to)) q2 (rw3 n t n 0) → Ends (ev PP (gsF gv) B d 362 308 [(2, rf (B + 51)), (2, (rf a)), (2, (rf b)), (0, ((ax : Int))), (0, fr), (0, to), (0, ((lo : Int))), (0, ((hi : Int))), (1, sp), ((9, 0)), (0, ((t : Int))), (0, x11), (0, x12), u13, u14, u15] [] q2) _ := fun x11 x12 u13 u14 u15 q2 l2 u2 => by
        refine Ends.eq (b362_308 (n := n) (by first | assumption | omega) (by (repeat' first | assumption | refine LX.setF _ _ ?_ (by decide +kernel) | refine LX.setS ?_ rfl | refine LX.setA ?_ (by first | assumption | omega))) (by first | assumption | omega)) ?_
        rw [w_succ (by omega)]
        refine iht _ _ ⟨_, _, _, _, _, rfl, (by (repeat' first | assumption | refine LX.setF _ _ ?_ (by decide +kernel) | refine LX.setS ?_ rfl | refine LX.setA ?_ (by assumption))), by omega, ?_⟩
        rw [rw3_t]; exact u2
      refine Ends.eq (b362_60 (n := n) (by (repeat' first | assumption | refine LX.setF _ _ ?_ (by decide +kernel) | refine LX.setS ?_ rfl | refine LX.setA ?_ (by first | assumption | omega))) (by first | assumption | omega)) ?_
      rw [show bop32 104 24 (ax : Int) = ((24 * ax : Nat) : Int) from mulNN (x := 24) (by omega), addNN (by omega), tn, qu, mulNN (by omega)]
      refine Ends.b3 (fun _ => by omega) (fun _ => Ends.g ⟨by omega, by omega⟩ ?_)
      obtain rfl | rfl | rfl : ax = 0 ∨ ax = 1 ∨ ax = 2 := by omega
      · -- along x
        refine Ends.b1 (fun z => absurd rfl z) (fun _ => ?_)
        refine lp (n) (fun z L q2 => ∃ u13 u14 u15 : AV, L = [(2, rf (B + 51)), (2, (rf a)), (2, (rf b)), (0, (((0 : Nat) : Int))), (0, fr), (0, to), (0, ((lo : Int))), (0, ((hi : Int))), (1, sp), ((9, 0)), (0, ((t : Int))), (0, (((quT 0 t * n : Nat) : Int))), (0, ((z : Int))), u13, u14, u15] ∧ LX B n q2 ∧ z ≤ n ∧ Uni n h a R (onK n (prM Q 0 fr to)) q2 (rw3 n t z 0)) ?_ ?_ (0) ⟨_, _, _, rfl, (by (repeat' first | assumption | refine LX.setF _ _ ?_ (by decide +kernel) | refine LX.setS ?_ rfl | refine LX.setA ?_ (by assumption))), by omega, ?_⟩
        · rintro z _ q2 hz ⟨uq20, uq21, uq22, rfl, lq2, hzN, u2⟩ ihz
          have b2 := qb.fr u2.1 hab
          have bz := b2.2 _ z hq4 hz
          have hqz := q_lt hq4 hz
          have ez : ∀ (u14 : AV) (x15 : Int) (v : Int) (q3 : AH), LX B n q3 → Uni n h a R (onK n (prM Q 0 fr to)) q3 (rw3 n t z n) → Ends (ev PP (gsF gv) B d 362 171 [(2, rf (B + 51)), (2, (rf a)), (2, (rf b)), (0, (((0 : Nat) : Int))), (0, fr), (0, to), (0, ((lo : Int))), (0, ((hi : Int))), (1, sp), ((9, 0)), (0, ((t : Int))), (0, (((quT 0 t * n : Nat) : Int))), (0, ((z : Int))), (1, v), u14, (0, x15)] [] q3) _ := fun u14 x15 v q3 l3 u3 => by
            refine Ends.eq (b362_171 (n := n) (by (repeat' first | assumption | refine LX.setF _ _ ?_ (by decide +kernel) | refine LX.setS ?_ rfl | refine LX.setA ?_ (by first | assumption | omega))) (by first | assumption | omega)) ?_
            rw [w_succ (by omega)]
            refine ihz _ _ ⟨_, _, _, rfl, (by (repeat' first | assumption | refine LX.setF _ _ ?_ (by decide +kernel) | refine LX.setS ?_ rfl | refine LX.setA ?_ (by assumption))), by omega, ?_⟩
            rw [rw3_z]; exact u3
          refine Ends.eq (b362_96 (n := n) (by (repeat' first | assumption | refine LX.setF _ _ ?_ (by decide +kernel) | refine LX.setS ?_ rfl | refine LX.setA ?_ (by first | assumption | omega))) (by first | assumption | omega)) ?_
          simp only [ad_rf, b2.1, addNN (show quT 0 t * n + z < 2147483648 by omega), tn]
          refine Ends.b3 (fun _ => by omega) (fun _ => Ends.g ⟨rf_pos _, by trivial, by omega, by omega⟩ ?_)
          refine lp (n) (fun y L q3 => L = [(2, rf (B + 51)), (2, (rf a)), (2, (rf b)), (0, (((0 : Nat) : Int))), (0, fr), (0, to), (0, ((lo : Int))), (0, ((hi : Int))), (1, sp), ((9, 0)), (0, ((t : Int))), (0, (((quT 0 t * n : Nat) : Int))), (0, ((z : Int))), (1, (hv q2 b (quT 0 t * n + z))), ((9, 0)), (0, ((y : Int)))] ∧ LX B n q3 ∧ y ≤ n ∧ Uni n h a R (onK n (prM Q 0 fr to)) q3 (rw3 n t z y)) ?_ ?_ (0) ⟨rfl, (by (repeat' first | assumption | refine LX.setF _ _ ?_ (by decide +kernel) | refine LX.setS ?_ rfl | refine LX.setA ?_ (by assumption))), by omega, ?_⟩
          · rintro y _ q3 hy ⟨rfl, lq3, hyN, u3⟩ ihy
            have hp := rw3_lt ht hz hy
            have k3 : hk q3 a = (3, 24 * n * n) := u3.2.1
            have k31 : (hk q3 a).1 = 1 + 2 := by rw [k3]
            have hb := bz.2 y (by omega)
            have K : ∀ x, x < n → onK n (prM Q 0 fr to) (rw3 n t z y) x = (decide (lo ≤ x ∧ x < hi) && Q (quT 0 t) z y) := fun x hx => by
              rw [onK_at hz hy]; show (decide (fr ≤ (x : Int) ∧ (x : Int) < to) && Q (quT 0 t) z y) = _; rw [decide_eq_decide.mpr (rng x hx)]
            refine Ends.eq (b362_117 (n := n) (by (repeat' first | assumption | refine LX.setF _ _ ?_ (by decide +kernel) | refine LX.setS ?_ rfl | refine LX.setA ?_ (by first | assumption | omega))) (by first | assumption | omega)) ?_
            rw [bit_is _ (by omega), hb, row_eq hn ht hz hy]
            simp only [ad_rf, k3, tn, an1]
            refine Ends.b3 (fun _ => by omega) (fun _ => Ends.b0 (fun zv => ?_) (fun _ => Ends.b1 (fun zb => ?_) (fun zb => ?_)))
            · refine ez _ _ _ _ lq3 (u3.skip (rw3_ley (by omega)) (fun k x h1 h2 hk hx => ?_))
              obtain ⟨d1, d2, d3, d4⟩ := rng_y hz h1 h2 (Nat.le_refl _)
              rw [cmp64_z] at zv
              have := bz.2 (k % n) (by omega)
              rw [zv, tb_0] at this
              simp [d4] at this
              show (decide (fr ≤ (x : Int) ∧ (x : Int) < to) && Q (quT 0 (k / (n * n))) (k / n % n) (k % n)) = false
              rw [d1, d2, this, Bool.and_false]
            · have hQ : Q (quT 0 t) z y = false := by
                cases e : Q (quT 0 t) z y
                · rfl
                · exfalso; apply zb; rw [e]; simp [hy]; rfl
              refine Ends.eq (b362_165 (n := n) (by first | assumption | omega) (by (repeat' first | assumption | refine LX.setF _ _ ?_ (by decide +kernel) | refine LX.setS ?_ rfl | refine LX.setA ?_ (by first | assumption | omega))) (by first | assumption | omega)) ?_
              rw [w_succ (by omega)]
              refine ihy _ _ ⟨rfl, (by (repeat' first | assumption | refine LX.setF _ _ ?_ (by decide +kernel) | refine LX.setS ?_ rfl | refine LX.setA ?_ (by assumption))), by omega, ?_⟩
              refine u3.skip (Nat.le_succ _) (fun k x h1 h2 hk hx => ?_)
              have : k = rw3 n t z y := by rw [rw3_y] at h2; omega
              rw [this, K x hx, hQ, Bool.and_false]
            · have hQ : Q (quT 0 t) z y = true := by
                cases e : Q (quT 0 t) z y
                · exfalso; rw [e] at zb; simp at zb; exact absurd zb (by decide)
                · rfl
              refine Ends.g ⟨rf_pos _, by trivial, by omega, by omega⟩ (Ends.g ⟨rf_pos _, by trivial, by omega, by omega, hB⟩ ?_)
              refine Ends.eq (b362_165 (n := n) (by first | assumption | omega) (by (repeat' first | assumption | refine LX.setF _ _ ?_ (by decide +kernel) | refine LX.setS ?_ rfl | refine LX.setA ?_ (by first | assumption | omega))) (by first | assumption | omega)) ?_
              rw [w_succ (by omega)]
              refine ihy _ _ ⟨rfl, (by (repeat' first | assumption | refine LX.setF _ _ ?_ (by decide +kernel) | refine LX.setS ?_ rfl | refine LX.setA ?_ (by assumption))), by omega, ?_⟩
              refine u3.put hp (fun x hx => ?_)
              rw [sb hx]
              by_cases hxn : x < n
              · rw [K x hxn, hQ]; simp [hxn]
              · have : ¬ (lo ≤ x ∧ x < hi) := by omega
                simp [this, hxn]
          · rintro y _ q3 hy ⟨rfl, lq3, hyN, u3⟩
            obtain rfl : n = y := by omega
            refine Ends.eq (b362_117 (n := n) (by (repeat' first | assumption | refine LX.setF _ _ ?_ (by decide +kernel) | refine LX.setS ?_ rfl | refine LX.setA ?_ (by first | assumption | omega))) (by first | assumption | omega)) ?_
            refine Ends.b3 (fun _ => ez _ _ _ _ lq3 u3) (fun _ => by omega)
          · exact u2
        · rintro z _ q2 hz ⟨uq20, uq21, uq22, rfl, lq2, hzN, u2⟩
          obtain rfl : n = z := by omega
          refine Ends.eq (b362_96 (n := n) (by (repeat' first | assumption | refine LX.setF _ _ ?_ (by decide +kernel) | refine LX.setS ?_ rfl | refine LX.setA ?_ (by first | assumption | omega))) (by first | assumption | omega)) ?_
          refine Ends.b3 (fun _ => nt _ _ _ _ _ _ lq2 u2) (fun _ => by omega)
        · exact uq
      · -- along y
        refine Ends.b1 (fun _ => Ends.b1 (fun z => absurd rfl z) (fun _ => ?_)) (fun z => absurd z (by decide))
        refine lp (n) (fun z L q2 => ∃ u13 u14 u15 : AV, L = [(2, rf (B + 51)), (2, (rf a)), (2, (rf b)), (0, (((1 : Nat) : Int))), (0, fr), (0, to), (0, ((lo : Int))), (0, ((hi : Int))), (1, sp), ((9, 0)), (0, ((t : Int))), (0, (((quT 1 t * n : Nat) : Int))), (0, ((z : Int))), u13, u14, u15] ∧ LX B n q2 ∧ z ≤ n ∧ Uni n h a R (onK n (prM Q 1 fr to)) q2 (rw3 n t z 0)) ?_ ?_ (0) ⟨_, _, _, rfl, (by (repeat' first | assumption | refine LX.setF _ _ ?_ (by decide +kernel) | refine LX.setS ?_ rfl | refine LX.setA ?_ (by assumption))), by omega, ?_⟩
        · rintro z _ q2 hz ⟨uq20, uq21, uq22, rfl, lq2, hzN, u2⟩ ihz
          have b2 := qb.fr u2.1 hab
          have hqz := q_lt hq4 hz
          refine Ends.eq (b362_188 (n := n) (by (repeat' first | assumption | refine LX.setF _ _ ?_ (by decide +kernel) | refine LX.setS ?_ rfl | refine LX.setA ?_ (by first | assumption | omega))) (by first | assumption | omega)) ?_
          refine Ends.b3 (fun _ => by omega) (fun _ => ?_)
          have K : ∀ y x, y < n → x < n → onK n (prM Q 1 fr to) (rw3 n t z y) x = (decide (lo ≤ y ∧ y < hi) && Q (quT 1 t) z x) := fun y x hy hx => by
            rw [onK_at hz hy]; show (decide (fr ≤ (y : Int) ∧ (y : Int) < to) && Q (quT 1 t) z x) = _; rw [decide_eq_decide.mpr (rng y hy)]
          refine lp (hi) (fun y L q3 => ∃ u14 u15 : AV, L = [(2, rf (B + 51)), (2, (rf a)), (2, (rf b)), (0, (((1 : Nat) : Int))), (0, fr), (0, to), (0, ((lo : Int))), (0, ((hi : Int))), (1, sp), ((9, 0)), (0, ((t : Int))), (0, (((quT 1 t * n : Nat) : Int))), (0, ((z : Int))), (0, ((y : Int))), u14, u15] ∧ LX B n q3 ∧ y ≤ hi ∧ lo ≤ y ∧ Uni n h a R (onK n (prM Q 1 fr to)) q3 (rw3 n t z y)) ?_ ?_ (lo) ⟨_, _, rfl, (by (repeat' first | assumption | refine LX.setF _ _ ?_ (by decide +kernel) | refine LX.setS ?_ rfl | refine LX.setA ?_ (by assumption))), by omega, ?_⟩
          · rintro y _ q3 hy ⟨uq30, uq31, rfl, lq3, hyN, ⟨hly, u3⟩⟩ ihy
            have hyn : y < n := by omega
            have hp := rw3_lt ht hz hyn
            have k3 : hk q3 a = (3, 24 * n * n) := u3.2.1
            have k31 : (hk q3 a).1 = 1 + 2 := by rw [k3]
            have b3 := qb.fr u3.1 hab
            have bz := b3.2 _ z hq4 hz
            refine Ends.eq (b362_201 (n := n) (by (repeat' first | assumption | refine LX.setF _ _ ?_ (by decide +kernel) | refine LX.setS ?_ rfl | refine LX.setA ?_ (by first | assumption | omega))) (by first | assumption | omega)) ?_
            simp only [ad_rf, b3.1, k3, addNN (show quT 1 t * n + z < 2147483648 by omega), row_eq hn ht hz hyn, tn, an1]
            refine Ends.b3 (fun _ => by omega) (fun _ => Ends.g ⟨rf_pos _, by trivial, by omega, by omega⟩ (Ends.g ⟨rf_pos _, by trivial, by omega, by omega⟩ (Ends.g ⟨rf_pos _, by trivial, by omega, by omega, hB⟩ ?_)))
            rw [w_succ (by omega)]
            refine ihy _ _ ⟨_, _, rfl, (by (repeat' first | assumption | refine LX.setF _ _ ?_ (by decide +kernel) | refine LX.setS ?_ rfl | refine LX.setA ?_ (by assumption))), by omega, ?_⟩
            refine ⟨by omega, u3.put hp (fun x hx => ?_)⟩
            rw [bz.2 x hx]
            by_cases hxn : x < n
            · rw [K y x hyn hxn, decide_eq_true (show lo ≤ y ∧ y < hi by omega), Bool.true_and]
            · simp [hxn]
          · rintro y _ q3 hy ⟨uq30, uq31, rfl, lq3, hyN, ⟨hly, u3⟩⟩
            obtain rfl : hi = y := by omega
            refine Ends.eq (b362_201 (n := n) (by (repeat' first | assumption | refine LX.setF _ _ ?_ (by decide +kernel) | refine LX.setS ?_ rfl | refine LX.setA ?_ (by first | assumption | omega))) (by first | assumption | omega)) ?_
            refine Ends.b3 (fun _ => ?_) (fun _ => by omega)
            rw [w_succ (by omega)]
            refine ihz _ _ ⟨_, _, _, rfl, (by (repeat' first | assumption | refine LX.setF _ _ ?_ (by decide +kernel) | refine LX.setS ?_ rfl | refine LX.setA ?_ (by assumption))), by omega, ?_⟩
            rw [rw3_z]
            refine u3.skip (rw3_ley hin) (fun k x h1 h2 hk hx => ?_)
            obtain ⟨d1, d2, d3, d4⟩ := rng_y hz h1 h2 (Nat.le_refl _)
            have := K (k % n) x d4 hx
            rw [← d1, ← d2, (rw3_dec hn0 hk).2.2.2] at this
            rw [this, decide_eq_false (by omega), Bool.false_and]
          · refine ⟨Nat.le_refl _, u2.skip (rw3_ley (Nat.zero_le _)) (fun k x h1 h2 hk hx => ?_)⟩
            obtain ⟨d1, d2, d3, d4⟩ := rng_y hz h1 h2 (by omega)
            have := K (k % n) x (by omega) hx
            rw [← d1, ← d2, (rw3_dec hn0 hk).2.2.2] at this
            rw [this, decide_eq_false (by omega), Bool.false_and]
        · rintro z _ q2 hz ⟨uq20, uq21, uq22, rfl, lq2, hzN, u2⟩
          obtain rfl : n = z := by omega
          refine Ends.eq (b362_188 (n := n) (by (repeat' first | assumption | refine LX.setF _ _ ?_ (by decide +kernel) | refine LX.setS ?_ rfl | refine LX.setA ?_ (by first | assumption | omega))) (by first | assumption | omega)) ?_
          refine Ends.b3 (fun _ => nt _ _ _ _ _ _ lq2 u2) (fun _ => by omega)
        · exact uq
      · -- along z
        refine Ends.b1 (fun _ => Ends.b1 (fun _ => ?_) (fun z => absurd z (by decide))) (fun z => absurd z (by decide))
        have K : ∀ z y x, z < n → y < n → x < n → onK n (prM Q 2 fr to) (rw3 n t z y) x = (decide (lo ≤ z ∧ z < hi) && Q (quT 2 t) y x) := fun z y x hz hy hx => by
          rw [onK_at hz hy]; show (decide (fr ≤ (z : Int) ∧ (z : Int) < to) && Q (quT 2 t) y x) = _; rw [decide_eq_decide.mpr (rng z hz)]
        refine lp (hi) (fun z L q2 => ∃ u13 u14 u15 : AV, L = [(2, rf (B + 51)), (2, (rf a)), (2, (rf b)), (0, (((2 : Nat) : Int))), (0, fr), (0, to), (0, ((lo : Int))), (0, ((hi : Int))), (1, sp), ((9, 0)), (0, ((t : Int))), (0, (((quT 2 t * n : Nat) : Int))), (0, ((z : Int))), u13, u14, u15] ∧ LX B n q2 ∧ z ≤ hi ∧ lo ≤ z ∧ Uni n h a R (onK n (prM Q 2 fr to)) q2 (rw3 n t z 0)) ?_ ?_ (lo) ⟨_, _, _, rfl, (by (repeat' first | assumption | refine LX.setF _ _ ?_ (by decide +kernel) | refine LX.setS ?_ rfl | refine LX.setA ?_ (by assumption))), by omega, ?_⟩
        · rintro z _ q2 hz ⟨uq20, uq21, uq22, rfl, lq2, hzN, ⟨hlz, u2⟩⟩ ihz
          have hzn : z < n := by omega
          refine Ends.eq (b362_252 (n := n) (by (repeat' first | assumption | refine LX.setF _ _ ?_ (by decide +kernel) | refine LX.setS ?_ rfl | refine LX.setA ?_ (by first | assumption | omega))) (by first | assumption | omega)) ?_
          refine Ends.b3 (fun _ => by omega) (fun _ => ?_)
          refine lp (n) (fun y L q3 => ∃ u14 u15 : AV, L = [(2, rf (B + 51)), (2, (rf a)), (2, (rf b)), (0, (((2 : Nat) : Int))), (0, fr), (0, to), (0, ((lo : Int))), (0, ((hi : Int))), (1, sp), ((9, 0)), (0, ((t : Int))), (0, (((quT 2 t * n : Nat) : Int))), (0, ((z : Int))), (0, ((y : Int))), u14, u15] ∧ LX B n q3 ∧ y ≤ n ∧ Uni n h a R (onK n (prM Q 2 fr to)) q3 (rw3 n t z y)) ?_ ?_ (0) ⟨_, _, rfl, (by (repeat' first | assumption | refine LX.setF _ _ ?_ (by decide +kernel) | refine LX.setS ?_ rfl | refine LX.setA ?_ (by assumption))), by omega, ?_⟩
          · rintro y _ q3 hy ⟨uq30, uq31, rfl, lq3, hyN, u3⟩ ihy
            have hp := rw3_lt ht hzn hy
            have k3 : hk q3 a = (3, 24 * n * n) := u3.2.1
            have k31 : (hk q3 a).1 = 1 + 2 := by rw [k3]
            have b3 := qb.fr u3.1 hab
            have by_ := b3.2 _ y hq4 hy
            have hqy := q_lt hq4 hy
            refine Ends.eq (b362_262 (n := n) (by (repeat' first | assumption | refine LX.setF _ _ ?_ (by decide +kernel) | refine LX.setS ?_ rfl | refine LX.setA ?_ (by first | assumption | omega))) (by first | assumption | omega)) ?_
            simp only [ad_rf, b3.1, k3, addNN (show quT 2 t * n + y < 2147483648 by omega), row_eq hn ht hzn hy, tn, an1]
            refine Ends.b3 (fun _ => by omega) (fun _ => Ends.g ⟨rf_pos _, by trivial, by omega, by omega⟩ (Ends.g ⟨rf_pos _, by trivial, by omega, by omega⟩ (Ends.g ⟨rf_pos _, by trivial, by omega, by omega, hB⟩ ?_)))
            rw [w_succ (by omega)]
            refine ihy _ _ ⟨_, _, rfl, (by (repeat' first | assumption | refine LX.setF _ _ ?_ (by decide +kernel) | refine LX.setS ?_ rfl | refine LX.setA ?_ (by assumption))), by omega, ?_⟩
            refine u3.put hp (fun x hx => ?_)
            rw [by_.2 x hx]
            by_cases hxn : x < n
            · rw [K z y x hzn hy hxn, decide_eq_true (show lo ≤ z ∧ z < hi by omega), Bool.true_and]
            · simp [hxn]
          · rintro y _ q3 hy ⟨uq30, uq31, rfl, lq3, hyN, u3⟩
            obtain rfl : n = y := by omega
            refine Ends.eq (b362_262 (n := n) (by (repeat' first | assumption | refine LX.setF _ _ ?_ (by decide +kernel) | refine LX.setS ?_ rfl | refine LX.setA ?_ (by first | assumption | omega))) (by first | assumption | omega)) ?_
            refine Ends.b3 (fun _ => ?_) (fun _ => by omega)
            rw [w_succ (by omega)]
            refine ihz _ _ ⟨_, _, _, rfl, (by (repeat' first | assumption | refine LX.setF _ _ ?_ (by decide +kernel) | refine LX.setS ?_ rfl | refine LX.setA ?_ (by assumption))), by omega, ?_⟩
            refine ⟨by omega, ?_⟩
            rw [rw3_z]; exact u3
          · exact u2
        · rintro z _ q2 hz ⟨uq20, uq21, uq22, rfl, lq2, hzN, ⟨hlz, u2⟩⟩
          obtain rfl : hi = z := by omega
          refine Ends.eq (b362_252 (n := n) (by (repeat' first | assumption | refine LX.setF _ _ ?_ (by decide +kernel) | refine LX.setS ?_ rfl | refine LX.setA ?_ (by first | assumption | omega))) (by first | assumption | omega)) ?_
          refine Ends.b3 (fun _ => nt _ _ _ _ _ _ lq2 (u2.skip (rw3_lez hin) (fun k x h1 h2 hk hx => ?_))) (fun _ => by omega)
          obtain ⟨d1, d2, d3⟩ := rng_z hn0 h1 h2 (Nat.le_refl _)
          have := K (k / n % n) (k % n) x d3 (Nat.mod_lt _ hn0) hx
          rw [← d1, (rw3_dec hn0 hk).2.2.2] at this
          rw [this, decide_eq_false (by omega), Bool.false_and]
        · refine ⟨Nat.le_refl _, uq.skip (rw3_lez (Nat.zero_le _)) (fun k x h1 h2 hk hx => ?_)⟩
          obtain ⟨d1, d2, d3⟩ := rng_z hn0 h1 h2 (by omega)
          have := K (k / n % n) (k % n) x (by omega) (Nat.mod_lt _ hn0) hx
          rw [← d1, (rw3_dec hn0 hk).2.2.2] at this
          rw [this, decide_eq_false (by omega), Bool.false_and]
    · rintro t _ q ht ⟨uq0, uq1, uq2, uq3, uq4, rfl, lq, htN, uq⟩
      obtain rfl : t = 24 := by omega
      refine Ends.eq (b362_60 (n := n) (by (repeat' first | assumption | refine LX.setF _ _ ?_ (by decide +kernel) | refine LX.setS ?_ rfl | refine LX.setA ?_ (by first | assumption | omega))) (by first | assumption | omega)) ?_
      rw [t24] at uq
      exact Ends.b3 (fun _ => Ends.sm ⟨_, rfl, uq.fin⟩) (fun _ => by omega)
    · rw [z0]; exact Uni.ini sa
  · refine Ends.sm ⟨_, rfl, Fr.rf, sa.congr (fun k x hk hx => ?_)⟩
    have no : ∀ c : Nat, c < n → ¬ (fr ≤ (c : Int) ∧ (c : Int) < to) := fun c hc => by split at hge <;> omega
    obtain ⟨d1, d2, d3, d4⟩ := rw3_dec hn0 hk
    have e : onK n (prM Q ax fr to) k x = false := by
      unfold onK prM
      split
      · rw [decide_eq_false (no _ hx), Bool.false_and]
      · rw [decide_eq_false (no _ d3), Bool.false_and]
      · rw [decide_eq_false (no _ d2), Bool.false_and]
    rw [e, Bool.or_false]
theorem c_unitePrism (l : LX B n h) (hd : 10 ≤ d) (hn0 : 0 < n) (hn : n ≤ 52) (m : TbC B h) (sa : SG n h a S) (qb : Qua n h b Q) (hab : b ≠ a) (hB : B ≤ a) (ha : a = B + 117 ∨ B + 246 ≤ a) {ax : Nat} (hax : ax < 3) {fr to : Int} (bf : -100000 ≤ fr ∧ fr ≤ 100000) (bt : -100000 ≤ to ∧ to ≤ 100000) :
    Vd (cll PP (ev PP (gsF gv) B) d 362 [(2, rf (B + 51)), (2, rf a), (2, rf b), (0, (ax : Int)), (0, fr), (0, to)] h) (fun h' => Fr (fun c => c = a) h h' ∧ SG n h' a (fun g => S g || prG n Q ax fr to g)) := by
  obtain ⟨h', e, f, s⟩ := c_prismR (gv := gv) l hd hn0 hn m sa qb hab hB ha hax bf bt
  refine ⟨h', e, f, SG.of hn0 s (fun t z y x ht hz hy hx => ?_)⟩
  rw [onK_at hz hy, onK_at hz hy]
  unfold prG
  rw [gSo_I ht, gZ_I hx hy ht, gY_I hx hy ht, gX_I hx ht]
end PRISM
