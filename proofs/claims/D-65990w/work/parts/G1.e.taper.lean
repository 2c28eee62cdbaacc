/-! L3: tapers (desk) -/
noncomputable section TAPR
variable {gv : Nat → Int} {B n d a b ax : Nat} {h : AH} {S : Nat → Bool} {f : Nat → Nat → Nat} {Q : Nat → Nat → Nat → Bool} {fr lo hi x y z : Int} {up : Bool}
/-- how many of the squares below y, below x -/
def psF (f : Nat → Nat → Nat) (y x : Nat) : Nat := sumN (fun v => sumN (f v) x) y
theorem ps_step {y x : Nat} : psF f (y + 1) (x + 1) + psF f y x = f y x + psF f y (x + 1) + psF f (y + 1) x := by
  show psF f y (x + 1) + (sumN (f y) x + f y x) + psF f y x = f y x + psF f y (x + 1) + (psF f y x + sumN (f y) x)
  omega
theorem ps_x0 : ∀ y, psF f y 0 = 0
  | 0 => rfl
  | y + 1 => by
    show psF f y 0 + 0 = 0
    rw [ps_x0 y]
theorem ps_le (hf : ∀ v u, f v u ≤ 1) : ∀ y x, psF f y x ≤ y * x := fun y x => by
  have h1 : ∀ v, sumN (f v) x ≤ x := fun v => by
    have := sumN_le (f := f v) (g := fun _ => 1) x (fun i _ => hf v i)
    rw [sumN_c] at this
    omega
  have := sumN_le (f := fun v => sumN (f v) x) (g := fun _ => x) y (fun i _ => h1 i)
  rw [sumN_c, Nat.mul_comm] at this
  exact this
theorem ps_rect {v0 p u0 q : Nat} : psF f (v0 + p) (u0 + q) + psF f v0 u0 = psF f v0 (u0 + q) + psF f (v0 + p) u0 + sumN (fun j => sumN (fun i => f (v0 + j) (u0 + i)) q) p := by
  unfold psF
  rw [sumN_app (f := fun v => sumN (f v) (u0 + q)) v0 p, sumN_app (f := fun v => sumN (f v) u0) v0 p]
  have e : sumN (fun j => sumN (f (v0 + j)) (u0 + q)) p = sumN (fun j => sumN (f (v0 + j)) u0) p + sumN (fun j => sumN (fun i => f (v0 + j) (u0 + i)) q) p := by
    rw [← sumN_add]
    exact sumN_congr p (fun j _ => sumN_app u0 q)
  show sumN (fun v => sumN (f v) (u0 + q)) v0 + sumN (fun j => sumN (f (v0 + j)) (u0 + q)) p + sumN (fun v => sumN (f v) u0) v0 = sumN (fun v => sumN (f v) (u0 + q)) v0 + (sumN (fun v => sumN (f v) u0) v0 + sumN (fun j => sumN (f (v0 + j)) u0) p) + sumN (fun j => sumN (fun i => f (v0 + j) (u0 + i)) q) p
  rw [e]
  omega
theorem sum_full {g : Nat → Nat} {c : Nat} (hg : ∀ i, g i ≤ c) : ∀ N, sumN g N ≤ c * N ∧ (sumN g N = c * N ↔ ∀ i, i < N → g i = c)
  | 0 => ⟨Nat.le_refl _, fun _ i hi => absurd hi (Nat.not_lt_zero i), fun _ => rfl⟩
  | N + 1 => by
    obtain ⟨h1, h2⟩ := sum_full hg N
    have h3 := hg N
    have e : c * (N + 1) = c * N + c := Nat.mul_succ c N
    show sumN g N + g N ≤ c * (N + 1) ∧ (sumN g N + g N = c * (N + 1) ↔ ∀ i, i < N + 1 → g i = c)
    rw [e]
    refine ⟨by omega, fun z => ?_, fun z => ?_⟩
    · have h4 := h2.mp (by omega)
      intro i hi
      rcases (by omega : i < N ∨ i = N) with y | y
      · exact h4 i y
      · rw [y]; omega
    · have := h2.mpr (fun i hi => z i (by omega))
      have := z N (by omega)
      omega
theorem rect_full (hf : ∀ v u, f v u ≤ 1) {v0 p u0 q : Nat} : sumN (fun j => sumN (fun i => f (v0 + j) (u0 + i)) q) p = q * p ↔ ∀ j i, j < p → i < q → f (v0 + j) (u0 + i) = 1 := by
  have h1 : ∀ j, sumN (fun i => f (v0 + j) (u0 + i)) q ≤ q ∧ (sumN (fun i => f (v0 + j) (u0 + i)) q = q ↔ ∀ i, i < q → f (v0 + j) (u0 + i) = 1) := fun j => by
    have := sum_full (g := fun i => f (v0 + j) (u0 + i)) (c := 1) (fun i => hf _ _) q
    rw [Nat.one_mul] at this
    exact this
  rw [(sum_full (g := fun j => sumN (fun i => f (v0 + j) (u0 + i)) q) (c := q) (fun j => (h1 j).1) p).2]
  exact ⟨fun z j i hj hi => (h1 j).2.mp (z j hj) i hi, fun z j hj => (h1 j).2.mpr (fun i hi => z j i hj hi)⟩
/-- what a taper keeps -/
def TpF (B n : Nat) (h : AH) (ax : Nat) (fr : Int) (up : Bool) (f : Nat → Nat → Nat) : Prop := (hv h (B + 115) 2 = (ax : Int) ∧ hv h (B + 115) 3 = fr ∧ hv h (B + 115) 4 = (if up = true then 1 else 0)) ∧ ∀ y x, y ≤ n → x ≤ n → hv h (B + 116) (y * (n + 1) + x) = ((psF f y x : Nat) : Int)
/-- its first row and column are empty -/
def TpZ (B n : Nat) (h : AH) : Prop := ∀ k, k ≤ n → hv h (B + 116) k = 0 ∧ hv h (B + 116) (k * (n + 1)) = 0
theorem TpF.zz {q : AH} (T : TpF B n q ax fr up f) : TpZ B n q := fun k hk => by
  have h1 := T.2 0 k (Nat.zero_le n) hk
  have h2 := T.2 k 0 hk (Nat.zero_le n)
  rw [Nat.zero_mul, Nat.zero_add] at h1
  rw [Nat.add_zero, ps_x0] at h2
  exact ⟨h1, h2⟩
theorem tp_ix {y x : Nat} (hn : n ≤ 52) (hy : y ≤ 60) (hx : x ≤ 60) : bop32 96 (bop32 104 (y : Int) (bop32 96 (n : Int) 1)) (x : Int) = ((y * (n + 1) + x : Nat) : Int) := by
  have := Nat.mul_le_mul hy (show n + 1 ≤ 53 by omega)
  rw [show bop32 96 (n : Int) 1 = ((n + 1 : Nat) : Int) from addNN (y := 1) (by omega), show bop32 104 (y : Int) ((n + 1 : Nat) : Int) = ((y * (n + 1) : Nat) : Int) from mulNN (by omega)]
  exact addNN (by omega)
theorem tp_lt {y x : Nat} (hy : y ≤ n) (hx : x ≤ n) : y * (n + 1) + x < (n + 1) * (n + 1) := by
  have := Nat.mul_le_mul_right (n + 1) hy
  have e : (n + 1) * (n + 1) = n * (n + 1) + (n + 1) := Nat.succ_mul n (n + 1)
  omega
def sqF (Q : Nat → Nat → Nat → Bool) (y x : Nat) : Nat := if Q 0 y x = true then 1 else 0
theorem sq_1 {v u : Nat} : sqF Q v u ≤ 1 := by unfold sqF; split <;> omega
set_option maxHeartbeats 1000000 in
theorem c_set459 (l : LX B n h) (hd : 10 ≤ d) (hn : n ≤ 52) (qq : Qua n h b Q) (hb : b < B + 115 ∨ B + 116 < b) (tz : TpZ B n h) :
    Vd (cll PP (ev PP (gsF gv) B) d 459 [(2, rf (B + 115)), (0, (ax : Int)), (0, fr), (0, (if up = true then (1 : Int) else 0)), (2, rf b)] h) (fun h' => Agr (fun c _ => c = B + 115 ∨ c = B + 116) h h' ∧ TpF B n h' ax fr up (sqF Q)) := by
  refine Vd.inq (D := 9) hd (Nat.le_of_ble_eq_true rfl) rfl (fun d hd P K => ?_)
  have rows : ∀ (c y : Nat) (q : AH) (u6 u7 : AV), y + c = n → LX B n q → Agr (fun c _ => c = B + 115 ∨ c = B + 116) h q → (hv q (B + 115) 2 = (ax : Int) ∧ hv q (B + 115) 3 = fr ∧ hv q (B + 115) 4 = (if up = true then 1 else 0)) → (∀ y' x', y' ≤ n → x' ≤ n → y' ≤ y ∨ x' = 0 → hv q (B + 116) (y' * (n + 1) + x') = ((psF (sqF Q) y' x' : Nat) : Int)) → Ends (ev PP (gsF gv) B d 459 18 [(2, rf (B + 115)), (0, (ax : Int)), (0, fr), (0, if up = true then (1 : Int) else 0), (2, rf b), (0, (y : Int)), u6, u7] [] q) P := by
    intro c
    induction c with
    | zero =>
      intro y q u6 u7 hy lq g t1 t2
      obtain rfl : n = y := by omega
      refine Ends.eq (b459_18 (n := n) (by (repeat' first | assumption | refine LX.setF _ _ ?_ (by decide +kernel) | refine LX.setS ?_ rfl | refine LX.setA ?_ (by first | assumption | omega))) (by first | assumption | omega)) ?_
      exact Ends.b3 (fun _ => Ends.sm (K _ ⟨g, t1, fun y' x' h1 h2 => t2 y' x' h1 h2 (Or.inl h1)⟩)) (fun z => absurd z (Int.lt_irrefl _))
    | succ c ihc =>
      intro y q u6 u7 hy lq g t1 t2
      have cols : ∀ (c x : Nat) (q : AH) (u7 : AV), x + c = n → LX B n q → Agr (fun c _ => c = B + 115 ∨ c = B + 116) h q → (hv q (B + 115) 2 = (ax : Int) ∧ hv q (B + 115) 3 = fr ∧ hv q (B + 115) 4 = (if up = true then 1 else 0)) → (∀ y' x', y' ≤ n → x' ≤ n → y' ≤ y ∨ x' = 0 ∨ (y' = y + 1 ∧ x' ≤ x) → hv q (B + 116) (y' * (n + 1) + x') = ((psF (sqF Q) y' x' : Nat) : Int)) → Ends (ev PP (gsF gv) B d 459 30 [(2, rf (B + 115)), (0, (ax : Int)), (0, fr), (0, if up = true then (1 : Int) else 0), (2, rf b), (0, (y : Int)), (0, (x : Int)), u7] [] q) P := by
        intro c
        induction c with
        | zero =>
          intro x q u7 hx lq g t1 t2
          obtain rfl : n = x := by omega
          refine Ends.eq (b459_30 (n := n) (by (repeat' first | assumption | refine LX.setF _ _ ?_ (by decide +kernel) | refine LX.setS ?_ rfl | refine LX.setA ?_ (by first | assumption | omega))) (by first | assumption | omega)) ?_
          refine Ends.b3 (fun _ => ?_) (fun z => absurd z (Int.lt_irrefl _))
          rw [w_succ (by omega)]
          refine ihc (y + 1) q _ _ (by omega) lq g t1 (fun y' x' h1 h2 h3 => t2 y' x' h1 h2 ?_)
          rcases h3 with h3 | h3
          · rcases (by omega : y' ≤ y ∨ y' = y + 1) with z | z
            · exact Or.inl z
            · exact Or.inr (Or.inr ⟨z, h2⟩)
          · exact Or.inr (Or.inl h3)
        | succ c ihx =>
          intro x q u7 hx lq g t1 t2
          have hq : hk q b = (3, 4 * n) := by rw [g.hk]; exact qq.1
          have qb : ∀ k, hv q b k = hv h b k := fun k => g.at _ _ (fun z => by omega)
          have i0 := fun _ : Unit => tp_ix (n := n) (y := y) (x := x) hn (by omega) (by omega)
          have i1 : ∀ _ : Unit, bop32 96 ((y * (n + 1) + x : Nat) : Int) 1 = ((y * (n + 1) + (x + 1) : Nat) : Int) := fun _ => by
            have := tp_lt (n := n) (y := y) (x := x) (by omega) (by omega)
            have := Nat.mul_le_mul (show n + 1 ≤ 53 by omega) (show n + 1 ≤ 53 by omega)
            exact addNN (y := 1) (by omega)
          have i2 : ∀ _ : Unit, bop32 96 (bop32 104 (bop32 96 (y : Int) 1) (bop32 96 (n : Int) 1)) (x : Int) = (((y + 1) * (n + 1) + x : Nat) : Int) := fun _ => by
            rw [show bop32 96 (y : Int) 1 = ((y + 1 : Nat) : Int) from addNN (y := 1) (by omega)]
            exact tp_ix hn (by omega) (by omega)
          have i3 : ∀ _ : Unit, bop32 96 (((y + 1) * (n + 1) + x : Nat) : Int) 1 = (((y + 1) * (n + 1) + (x + 1) : Nat) : Int) := fun _ => by
            have := tp_lt (n := n) (y := y + 1) (x := x) (by omega) (by omega)
            have := Nat.mul_le_mul (show n + 1 ≤ 53 by omega) (show n + 1 ≤ 53 by omega)
            exact addNN (y := 1) (by omega)
          have b1 := tp_lt (n := n) (y := y) (x := x) (by omega) (by omega)
          have b2 := tp_lt (n := n) (y := y) (x := x + 1) (by omega) (by omega)
          have b3 := tp_lt (n := n) (y := y + 1) (x := x) (by omega) (by omega)
          have b4 := tp_lt (n := n) (y := y + 1) (x := x + 1) (by omega) (by omega)
          have r1 := t2 y x (by omega) (by omega) (Or.inl (Nat.le_refl y))
          have r2 := t2 y (x + 1) (by omega) (by omega) (Or.inl (Nat.le_refl y))
          have r3 := t2 (y + 1) x (by omega) (by omega) (Or.inr (Or.inr ⟨rfl, Nat.le_refl x⟩))
          have st := ps_step (f := sqF Q) (y := y) (x := x)
          have s1 := sq_1 (Q := Q) (v := y) (u := x)
          have p1 := ps_le (f := sqF Q) (fun v u => sq_1) y (x + 1)
          have p2 := ps_le (f := sqF Q) (fun v u => sq_1) (y + 1) x
          have m1 := Nat.mul_le_mul (show y ≤ 52 by omega) (show x + 1 ≤ 52 by omega)
          have m2 := Nat.mul_le_mul (show y + 1 ≤ 52 by omega) (show x ≤ 52 by omega)
          have bit : uop 3 (bop64 127 (sop64 123 (hv q b y) (x : Int)) 1) = ((sqF Q y x : Nat) : Int) := by
            have := (qq.2 0 y (by decide) (by omega)).2 x (by omega)
            rw [Nat.zero_mul, Nat.zero_add, decide_eq_true (show x < n by omega), Bool.true_and] at this
            rw [qb, bit_is _ (by omega), this]
            unfold sqF
            cases Q 0 y x <;> rfl
          refine Ends.eq (b459_30 (n := n) (by (repeat' first | assumption | refine LX.setF _ _ ?_ (by decide +kernel) | refine LX.setS ?_ rfl | refine LX.setA ?_ (by first | assumption | omega))) (by first | assumption | omega)) ?_
          rw [ad_rf, tn, bit, i0 (), i1 (), i2 (), i3 ()]
          simp only [tn]
          rw [r1, r2, r3, an0, w_succ (i := x) (by omega)]
          clear i0 i1 i2 i3 bit
          have e : bop32 100 (bop32 96 (bop32 96 ((sqF Q y x : Nat) : Int) ((psF (sqF Q) y (x + 1) : Nat) : Int)) ((psF (sqF Q) (y + 1) x : Nat) : Int)) ((psF (sqF Q) y x : Nat) : Int) = ((psF (sqF Q) (y + 1) (x + 1) : Nat) : Int) := by
            rw [show bop32 96 ((sqF Q y x : Nat) : Int) ((psF (sqF Q) y (x + 1) : Nat) : Int) = ((sqF Q y x + psF (sqF Q) y (x + 1) : Nat) : Int) from addNN (by omega), show bop32 96 ((sqF Q y x + psF (sqF Q) y (x + 1) : Nat) : Int) ((psF (sqF Q) (y + 1) x : Nat) : Int) = ((sqF Q y x + psF (sqF Q) y (x + 1) + psF (sqF Q) (y + 1) x : Nat) : Int) from addNN (by omega), subNN (by omega) (by omega)]
            congr 1
            omega
          rw [e]
          clear e
          refine Ends.b3 (fun z => absurd z (by omega)) (fun _ => Ends.g ⟨rf_pos _, by rw [hq], by omega, by rw [hq]; show (y : Int) < ((4 * n : Nat) : Int); omega⟩ (Ends.g ⟨by omega, by omega⟩ (Ends.g ⟨by omega, by omega⟩ (Ends.g ⟨by omega, by omega⟩ (Ends.g ⟨by omega, by omega⟩ ?_)))))
          refine ihx (x + 1) _ _ (by omega) (lq.setS rfl) (g.set (Or.inr rfl)) (by rw [hv_set_ne (by omega), hv_set_ne (by omega), hv_set_ne (by omega)]; exact t1) (fun y' x' h1 h2 h3 => ?_)
          by_cases ez : y' = y + 1 ∧ x' = x + 1
          · rw [ez.1, ez.2]; exact hv_set_at _ _ _ _
          · have ne : y' * (n + 1) + x' ≠ (y + 1) * (n + 1) + (x + 1) := fun w => ez (by
              have e1 := dm (a := y') (show x' < n + 1 by omega)
              have e2 := dm (a := y + 1) (show x + 1 < n + 1 by omega)
              rw [w] at e1
              omega)
            rw [hv_set_ne (fun w => ne w.2)]
            exact t2 y' x' h1 h2 (by omega)
      refine Ends.eq (b459_18 (n := n) (by (repeat' first | assumption | refine LX.setF _ _ ?_ (by decide +kernel) | refine LX.setS ?_ rfl | refine LX.setA ?_ (by first | assumption | omega))) (by first | assumption | omega)) ?_
      exact Ends.b3 (fun z => absurd z (by omega)) (fun _ => cols n 0 q _ (by omega) lq g t1 (fun y' x' h1 h2 h3 => t2 y' x' h1 h2 (by omega)))
  refine Ends.eq (b459_0 (n := n) (by (repeat' first | assumption | refine LX.setF _ _ ?_ (by decide +kernel) | refine LX.setS ?_ rfl | refine LX.setA ?_ (by first | assumption | omega))) (by first | assumption | omega)) ?_
  refine Ends.g (by cases up; exact Or.inl rfl; exact Or.inr rfl) ?_
  refine rows n 0 _ _ _ (by omega) (by (repeat' first | assumption | refine LX.setF _ _ ?_ (by decide +kernel) | refine LX.setS ?_ rfl | refine LX.setA ?_ (by assumption))) (((Agr.rf.set (Or.inl rfl)).set (Or.inl rfl)).set (Or.inl rfl)) ⟨by rw [hv_set_ne (by omega), hv_set_ne (by omega)]; exact hv_set_at _ _ _ _, by rw [hv_set_ne (by omega)]; exact hv_set_at _ _ _ _, hv_set_at _ _ _ _⟩ (fun y' x' h1 h2 h3 => ?_)
  rw [hv_set_ne (by omega), hv_set_ne (by omega), hv_set_ne (by omega)]
  rcases h3 with h3 | h3
  · obtain rfl : y' = 0 := by omega
    rw [Nat.zero_mul, Nat.zero_add]
    exact (tz x' h2).1
  · rw [h3, Nat.add_zero, ps_x0]
    exact (tz y' h1).2
/-- all squares nearer than H to A, C are there -/
def tpP (n : Nat) (f : Nat → Nat → Nat) (A C H : Int) : Prop := ∀ X Y : Int, A - H < 8 * X + 8 → 8 * X < A + H → C - H < 8 * Y + 8 → 8 * Y < C + H → (0 ≤ X ∧ X < n) ∧ (0 ≤ Y ∧ Y < n) ∧ f Y.toNat X.toNat = 1
noncomputable def tpB (n : Nat) (f : Nat → Nat → Nat) (A C H : Int) : Bool := @decide (tpP n f A C H) (Classical.propDecidable _)
theorem tpB_t (w : tpP n f x y z) : tpB n f x y z = true := by unfold tpB; exact @decide_eq_true _ (Classical.propDecidable _) w
theorem tpB_f (w : ¬ tpP n f x y z) : tpB n f x y z = false := by unfold tpB; exact @decide_eq_false _ (Classical.propDecidable _) w
theorem fd8 : ∀ i : Fin 60, ∀ j : Fin 100, v888 (((100 * i + j : Nat) : Int) - 5000) 8 = (((100 * i + j : Nat) : Int) - 5000) / 8 := by decide +kernel
theorem v888_8 {t : Int} (h1 : -5000 ≤ t) (h2 : t < 1000) : v888 t 8 = t / 8 := by
  have := fd8 ⟨(t + 5000).toNat / 100, by omega⟩ ⟨(t + 5000).toNat % 100, by omega⟩
  simp only at this
  rw [show ((100 * ((t + 5000).toNat / 100) + (t + 5000).toNat % 100 : Nat) : Int) - 5000 = t by omega] at this
  exact this
end TAPR
