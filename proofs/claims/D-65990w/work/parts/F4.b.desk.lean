/-! L3: profiles (desk): small questions -/
section PRD
variable {gv : Nat → Int} {B n d s p : Nat} {h : AH} {ab be : Nat → Int} {lv : Nat → Bool} {U0 V0 U1 V1 DU DV SZ : Nat → Int}
/-- a point on a whole place -/
def whB (n : Nat) (ab be : Nat → Int) (p : Nat) : Bool := decide (be (2 * p) = 1 ∧ 0 ≤ ab (2 * p) ∧ ab (2 * p) ≤ (n : Int)) && decide (be (2 * p + 1) = 1 ∧ 0 ≤ ab (2 * p + 1) ∧ ab (2 * p + 1) ≤ (n : Int))
theorem whB_t (h : ∀ i, i < 2 → be (2 * p + i) = 1 ∧ 0 ≤ ab (2 * p + i) ∧ ab (2 * p + i) ≤ (n : Int)) : whB n ab be p = true := by
  unfold whB
  rw [decide_eq_true (show be (2 * p) = 1 ∧ 0 ≤ ab (2 * p) ∧ ab (2 * p) ≤ (n : Int) from h 0 (by decide)), decide_eq_true (show be (2 * p + 1) = 1 ∧ 0 ≤ ab (2 * p + 1) ∧ ab (2 * p + 1) ≤ (n : Int) from h 1 (by decide))]; rfl
theorem whB_f {j : Nat} (hj : j < 2) (h : ¬ (be (2 * p + j) = 1 ∧ 0 ≤ ab (2 * p + j) ∧ ab (2 * p + j) ≤ (n : Int))) : whB n ab be p = false := by
  unfold whB
  rcases (by omega : j = 0 ∨ j = 1) with z | z
  · rw [z] at h
    rw [decide_eq_false (show ¬ (be (2 * p) = 1 ∧ 0 ≤ ab (2 * p) ∧ ab (2 * p) ≤ (n : Int)) from h)]; rfl
  · rw [z] at h
    rw [decide_eq_false h, Bool.and_false]
theorem c_isWhole415 (l : LX B n h) (hd : 10 ≤ d) (hs : s < 6) (hp : p < 12) (ha : ∀ j, j < 2 → hv h (B + 66) (24 * s + (2 * p + j)) = ab (2 * p + j) ∧ hv h (B + 67) (24 * s + (2 * p + j)) = be (2 * p + j)) : Vt 0 (cll PP (ev PP (gsF gv) B) d 415 [(2, rf (B + 56)), (0, (s : Int)), (0, (p : Int))] h) (fun x h' => h' = h ∧ x = b2i (whB n ab be p)) := by
  refine Vt.inq (D := 9) hd (Nat.le_of_ble_eq_true rfl) rfl (fun d hd Q K => ?_)
  have key : ∀ (r j : Nat), j + r = 2 → (∀ i, i < j → be (2 * p + i) = 1 ∧ 0 ≤ ab (2 * p + i) ∧ ab (2 * p + i) ≤ (n : Int)) → Ends (ev PP (gsF gv) B d 415 4 [(2, rf (B + 56)), (0, (s : Int)), (0, (p : Int)), (0, ((2 * p + j : Nat) : Int))] [] h) Q := by
    intro r
    induction r with
    | zero =>
      intro j ej ok
      obtain rfl : j = 2 := by omega
      refine Ends.eq (b415_4 (n := n) (by (repeat' first | assumption | refine LX.setF _ _ ?_ (by decide +kernel) | refine LX.setS ?_ rfl | refine LX.setA ?_ (by first | assumption | omega))) (by first | assumption | omega)) ?_
      rw [show bop32 104 2 (p : Int) = ((2 * p : Nat) : Int) from mulNN (x := 2) (by omega), show bop32 96 ((2 * p : Nat) : Int) 2 = ((2 * p + 2 : Nat) : Int) from addNN (y := 2) (by omega)]
      refine Ends.b3 (fun _ => Ends.sm (K _ _ ⟨rfl, ?_⟩)) (fun z => absurd z (Int.lt_irrefl _))
      rw [whB_t ok]; rfl
    | succ r ih =>
      intro j ej ok
      obtain ⟨a1, a2⟩ := ha j (by omega)
      have no : ¬ (be (2 * p + j) = 1 ∧ 0 ≤ ab (2 * p + j) ∧ ab (2 * p + j) ≤ (n : Int)) → Ends (ev PP (gsF gv) B d 415 50 [(2, rf (B + 56)), (0, (s : Int)), (0, (p : Int)), (0, ((2 * p + j : Nat) : Int))] [] h) Q := fun z => by
        refine Ends.eq (b415_50 (n := n) (by (repeat' first | assumption | refine LX.setF _ _ ?_ (by decide +kernel) | refine LX.setS ?_ rfl | refine LX.setA ?_ (by first | assumption | omega))) (by first | assumption | omega)) ?_
        refine Ends.sm (K _ _ ⟨rfl, ?_⟩)
        rw [whB_f (by omega) z]; rfl
      have ix : bop32 96 (bop32 104 24 (s : Int)) ((2 * p + j : Nat) : Int) = ((24 * s + (2 * p + j) : Nat) : Int) := by
        rw [show bop32 104 24 (s : Int) = ((24 * s : Nat) : Int) from mulNN (x := 24) (by omega)]
        exact addNN (by omega)
      refine Ends.eq (b415_4 (n := n) (by (repeat' first | assumption | refine LX.setF _ _ ?_ (by decide +kernel) | refine LX.setS ?_ rfl | refine LX.setA ?_ (by first | assumption | omega))) (by first | assumption | omega)) ?_
      unfold q388 q381 v388 v381
      rw [show bop32 104 2 (p : Int) = ((2 * p : Nat) : Int) from mulNN (x := 2) (by omega), show bop32 96 ((2 * p : Nat) : Int) 2 = ((2 * p + 2 : Nat) : Int) from addNN (y := 2) (by omega), ix, tn, a1, a2]
      clear ix
      refine Ends.b3 (fun z => absurd z (by omega)) (fun _ => Ends.g ⟨by omega, by omega⟩ (Ends.b1 (fun z => no (fun y => z (cmp64_z.mpr y.1))) (fun z1 => Ends.g ⟨by omega, by omega⟩ (Ends.b2 (fun z => no (fun y => by have := cmp64_neg.mp z; omega)) (fun z2 => Ends.b5 (fun z3 => ?_) (fun z => no (fun y => by have : (n : Int) < ab (2 * p + j) := cmp64_pos.mp z; omega)))))))
      rw [w_succ (by omega)]
      refine ih (j + 1) (by omega) (fun i hi => ?_)
      rcases (by omega : i < j ∨ i = j) with u | u
      · exact ok i u
      · rw [u]
        refine ⟨cmp64_z.mp z1, ?_, ?_⟩
        · rcases (by omega : ab (2 * p + j) < 0 ∨ 0 ≤ ab (2 * p + j)) with y | y
          · have := cmp64_neg.mpr y; omega
          · exact y
        · rcases (by omega : (n : Int) < ab (2 * p + j) ∨ ab (2 * p + j) ≤ (n : Int)) with y | y
          · have : 0 < cmp64 (ab (2 * p + j)) (uop 2 (n : Int)) := cmp64_pos.mpr y
            omega
          · exact y
  refine Ends.eq (b415_0 (n := n) (by (repeat' first | assumption | refine LX.setF _ _ ?_ (by decide +kernel) | refine LX.setS ?_ rfl | refine LX.setA ?_ (by first | assumption | omega))) (by first | assumption | omega)) ?_
  rw [show bop32 104 2 (p : Int) = ((2 * p : Nat) : Int) from mulNN (x := 2) (by omega)]
  exact key 2 0 (by omega) (fun i hi => absurd hi (Nat.not_lt_zero i))
/-- lines in the desk's cells -/
def SgD (B : Nat) (q : AH) (lv : Nat → Bool) (U0 V0 U1 V1 : Nat → Int) : Prop := ∀ k, k < 24 → hv q (B + 77) k = b2i (lv k) ∧ (lv k = true → hv q (B + 69) k = U0 k ∧ hv q (B + 70) k = V0 k ∧ hv q (B + 71) k = U1 k ∧ hv q (B + 72) k = V1 k)
/-- ends of a line at a place -/
def enF (lv : Nat → Bool) (U0 V0 U1 V1 : Nat → Int) (u v : Int) (k : Nat) : Nat := if lv k = true then (if U0 k = u ∧ V0 k = v then 1 else 0) + (if U1 k = u ∧ V1 k = v then 1 else 0) else 0
theorem enF_2 {u v : Int} {k : Nat} : enF lv U0 V0 U1 V1 u v k ≤ 2 := by
  unfold enF
  split
  · split <;> split <;> omega
  · omega
theorem c_ends401 {u v : Int} (l : LX B n h) (hd : 10 ≤ d) (S : SgD B h lv U0 V0 U1 V1) : Vt 0 (cll PP (ev PP (gsF gv) B) d 401 [(2, rf (B + 56)), (0, u), (0, v)] h) (fun x h' => h' = h ∧ x = ((sumN (enF lv U0 V0 U1 V1 u v) 24 : Nat) : Int)) := by
  refine Vt.inq (D := 9) hd (Nat.le_of_ble_eq_true rfl) rfl (fun d hd Q K => ?_)
  have bd : ∀ m, sumN (enF lv U0 V0 U1 V1 u v) m ≤ 2 * m := by
    intro m
    induction m with
    | zero => exact Nat.le_refl 0
    | succ m ih =>
      have := enF_2 (lv := lv) (U0 := U0) (V0 := V0) (U1 := U1) (V1 := V1) (u := u) (v := v) (k := m)
      show sumN _ m + enF lv U0 V0 U1 V1 u v m ≤ 2 * (m + 1)
      omega
  have key : ∀ (r k : Nat), k + r = 24 → Ends (ev PP (gsF gv) B d 401 5 [(2, rf (B + 56)), (0, u), (0, v), (0, ((sumN (enF lv U0 V0 U1 V1 u v) k : Nat) : Int)), (0, (k : Int))] [] h) Q := by
    intro r
    induction r with
    | zero =>
      intro k ek
      obtain rfl : k = 24 := by omega
      refine Ends.eq (b401_5 (n := n) (by (repeat' first | assumption | refine LX.setF _ _ ?_ (by decide +kernel) | refine LX.setS ?_ rfl | refine LX.setA ?_ (by first | assumption | omega))) (by first | assumption | omega)) ?_
      exact Ends.b3 (fun _ => Ends.sm (K _ _ ⟨rfl, rfl⟩)) (fun z => absurd z (by decide))
    | succ r ih =>
      intro k ek
      have b0 := bd k
      obtain ⟨a1, a2⟩ := S k (by omega)
      have step : ∀ y : Int, y = ((sumN (enF lv U0 V0 U1 V1 u v) k + enF lv U0 V0 U1 V1 u v k : Nat) : Int) → Ends (ev PP (gsF gv) B d 401 5 [(2, rf (B + 56)), (0, u), (0, v), (0, y), (0, w32 ((k : Int) + 1))] [] h) Q := fun y ey => by
        rw [ey, w_succ (by omega)]
        exact ih (k + 1) (by omega)
      refine Ends.eq (b401_5 (n := n) (by (repeat' first | assumption | refine LX.setF _ _ ?_ (by decide +kernel) | refine LX.setS ?_ rfl | refine LX.setA ?_ (by first | assumption | omega))) (by first | assumption | omega)) ?_
      rw [tn, a1]
      refine Ends.b3 (fun z => absurd z (by omega)) (fun _ => Ends.g ⟨by omega, by omega⟩ (step _ ?_))
      generalize sumN (enF lv U0 V0 U1 V1 u v) k = sm at *
      have w1 : w32 ((sm : Int) + 1) = (sm : Int) + 1 := w32_id ⟨by omega, by omega⟩
      have w2 : w32 ((sm : Int) + 1 + 1) = (sm : Int) + 1 + 1 := w32_id ⟨by omega, by omega⟩
      simp only [ct1]
      unfold enF
      cases e : lv k
      · rw [if_pos (show b2i false = 0 from rfl), if_neg Bool.false_ne_true, Nat.add_zero]
      · obtain ⟨b1, b2, b3, b4⟩ := a2 e
        rw [if_neg (show ¬ b2i true = 0 by decide), if_pos rfl, b1, b2, b3, b4]
        clear step ih S bd
        by_cases c1 : U0 k = u <;> by_cases c2 : V0 k = v <;> by_cases c3 : U1 k = u <;> by_cases c4 : V1 k = v <;> simp only [c1, c2, c3, c4, w1, w2, if_true, if_false, and_true, and_false, true_and, false_and, and_self] <;> omega
  refine Ends.eq (b401_0 (n := n) (by (repeat' first | assumption | refine LX.setF _ _ ?_ (by decide +kernel) | refine LX.setS ?_ rfl | refine LX.setA ?_ (by first | assumption | omega))) (by first | assumption | omega)) ?_
  exact key 24 0 rfl
/-- a line with its step and length -/
def SgK (n : Nat) (U0 V0 U1 V1 DU DV SZ : Nat → Int) (k : Nat) : Prop := (D8 (DU k) (DV k) ∧ 1 ≤ SZ k) ∧ (U1 k = U0 k + SZ k * DU k ∧ V1 k = V0 k + SZ k * DV k) ∧ (0 ≤ U0 k ∧ U0 k ≤ n) ∧ (0 ≤ V0 k ∧ V0 k ≤ n) ∧ (0 ≤ U1 k ∧ U1 k ≤ n) ∧ (0 ≤ V1 k ∧ V1 k ≤ n) ∧ SZ k ≤ n
/-- two lines that meet but in ends -/
def MtSk (U0 V0 DU DV SZ : Nat → Int) (k m : Nat) : Prop := BadS (U0 m - U0 k) (V0 m - V0 k) (DU k) (DV k) (SZ k) (DU m) (DV m) (SZ m)
theorem v441_is {t d m : Int} (hm : bop32 104 m d = m * d) (h0 : d ≠ 0) : (v441 t d m = 1 ∧ witZ t d m) ∨ (v441 t d m = 0 ∧ ¬ witZ t d m) := by
  unfold v441 witZ
  rw [hm]
  simp only [ct5, ct4, ct2]
  generalize m * d = r
  by_cases z : 0 < d
  · rw [if_pos z]
    by_cases y : t < 0
    · rw [if_pos y]; omega
    · rw [if_neg y]
      by_cases x : r < t
      · rw [if_pos x]; omega
      · rw [if_neg x]; omega
  · rw [if_neg z]
    by_cases y : 0 < t
    · rw [if_pos y]; omega
    · rw [if_neg y]
      by_cases x : t < r
      · rw [if_pos x]; omega
      · rw [if_neg x]; omega
theorem endsX {t r1 w r2 : Int} : ((if t = 0 then (if w = 0 then (0 : Int) else if w = r2 then 0 else 1) else if t = r1 then (if w = 0 then 0 else if w = r2 then 0 else 1) else 1) = 1 ∧ ¬ ((t = 0 ∨ t = r1) ∧ (w = 0 ∨ w = r2))) ∨ ((if t = 0 then (if w = 0 then (0 : Int) else if w = r2 then 0 else 1) else if t = r1 then (if w = 0 then 0 else if w = r2 then 0 else 1) else 1) = 0 ∧ ((t = 0 ∨ t = r1) ∧ (w = 0 ∨ w = r2))) := by
  by_cases c1 : t = 0
  · rw [if_pos c1]
    by_cases c3 : w = 0
    · rw [if_pos c3]; omega
    · rw [if_neg c3]
      by_cases c4 : w = r2
      · rw [if_pos c4]; omega
      · rw [if_neg c4]; omega
  · rw [if_neg c1]
    by_cases c2 : t = r1
    · rw [if_pos c2]
      by_cases c3 : w = 0
      · rw [if_pos c3]; omega
      · rw [if_neg c3]
        by_cases c4 : w = r2
        · rw [if_pos c4]; omega
        · rw [if_neg c4]; omega
    · rw [if_neg c2]; omega
theorem dvx {k nm : Int} (h : nm = 1 ∨ nm = 2) (h1 : k.natAbs ≤ 1000) : bop32 108 (k * nm) nm = k := by
  show w32 ((k * nm).tdiv nm) = k
  rw [Int.mul_tdiv_cancel k (by omega)]
  exact w32_id ⟨by omega, by omega⟩
theorem m32 {x y : Int} (hx : x.natAbs ≤ 1000) (hy : y.natAbs ≤ 1000) : bop32 104 x y = x * y ∧ (x * y).natAbs ≤ 1000000 := by
  have := abs_mul hx hy
  exact ⟨mul32 (by omega) (by omega), this⟩
theorem v395_is {k m : Nat} (n64 : n ≤ 64) (hk : k < 24) (hm : m < 24) (S : SgD B h lv U0 V0 U1 V1) (lk : lv k = true) (lm : lv m = true) (ek : hv h (B + 73) k = DU k ∧ hv h (B + 74) k = DV k ∧ hv h (B + 75) k = SZ k) (em : hv h (B + 73) m = DU m ∧ hv h (B + 74) m = DV m ∧ hv h (B + 75) m = SZ m) (Gk : SgK n U0 V0 U1 V1 DU DV SZ k) (Gm : SgK n U0 V0 U1 V1 DU DV SZ m) :
    q395 B h (k : Int) (m : Int) ∧ ((v395 B h (k : Int) (m : Int) = 1 ∧ MtSk U0 V0 DU DV SZ k m) ∨ (v395 B h (k : Int) (m : Int) = 0 ∧ ¬ MtSk U0 V0 DU DV SZ k m)) := by
  obtain ⟨a1, a2, -, -⟩ := (S k hk).2 lk
  obtain ⟨b1, b2, b3, b4⟩ := (S m hm).2 lm
  obtain ⟨⟨D, s1⟩, -, c1, c2, c3, c4, c5⟩ := Gk
  obtain ⟨⟨D', s1'⟩, ⟨z1, z2⟩, c1', c2', c3', c4', c5'⟩ := Gm
  unfold MtSk
  have nn : (n : Int) ≤ 64 := by omega
  unfold q395 v395
  simp only [tn]
  rw [a1, a2, b1, b2, b3, b4, ek.1, ek.2.1, ek.2.2, em.1, em.2.1, em.2.2]
  have x1 : (DU k).natAbs ≤ 1 ∧ (DV k).natAbs ≤ 1 := by obtain ⟨q1, q2, -⟩ := D; omega
  have x2 : (DU m).natAbs ≤ 1 ∧ (DV m).natAbs ≤ 1 := by obtain ⟨q1, q2, -⟩ := D'; omega
  rw [z1, z2] at *
  generalize DU k = du at *
  generalize DV k = dv at *
  generalize SZ k = S0 at *
  generalize DU m = du' at *
  generalize DV m = dv' at *
  generalize SZ m = S1 at *
  generalize U0 k = p0 at *
  generalize V0 k = p1 at *
  generalize U0 m = q0 at *
  generalize V0 m = q1 at *
  have eu : bop32 100 q0 p0 = q0 - p0 := sub32 (by omega) (by omega)
  have ev_ : bop32 100 q1 p1 = q1 - p1 := sub32 (by omega) (by omega)
  rw [eu, ev_]
  obtain ⟨u, hu⟩ : ∃ u, u = q0 - p0 := ⟨_, rfl⟩
  obtain ⟨v, hv⟩ : ∃ v, v = q1 - p1 := ⟨_, rfl⟩
  rw [← hu, ← hv]
  have ub : u.natAbs ≤ 64 := by omega
  have vb : v.natAbs ≤ 64 := by omega
  have S0b : S0.natAbs ≤ 64 := by omega
  have S1b : S1.natAbs ≤ 64 := by omega
  have big : ∀ {x : Int}, x.natAbs ≤ 64 → x.natAbs ≤ 1000 := fun z => by omega
  have one : ∀ {x : Int}, x.natAbs ≤ 1 → x.natAbs ≤ 1000 := fun z => by omega
  have sm : ∀ {x y z w : Int}, x.natAbs ≤ 1000 → y.natAbs ≤ 1000 → z.natAbs ≤ 1000 → w.natAbs ≤ 1000 → bop32 100 (bop32 104 x y) (bop32 104 z w) = x * y - z * w ∧ bop32 96 (bop32 104 x y) (bop32 104 z w) = x * y + z * w := fun {x y z w} h1 h2 h3 h4 => by
    obtain ⟨q1, q2⟩ := m32 h1 h2
    obtain ⟨q3, q4⟩ := m32 h3 h4
    rw [q1, q3]
    exact ⟨sub32 (by omega) (by omega), add32 (by omega) (by omega)⟩
  rw [(sm (one x1.1) (one x2.2) (one x1.2) (one x2.1)).1, (sm (big ub) (one x2.2) (big vb) (one x2.1)).1, (sm (big ub) (one x1.2) (big vb) (one x1.1)).1, (sm (one x1.1) (big vb) (one x1.2) (big ub)).1, (sm (one x1.1) (one x1.1) (one x1.2) (one x1.2)).2, (sm (big ub) (one x1.1) (big vb) (one x1.2)).2]
  simp only [ct0, ct1]
  by_cases d0 : du * dv' - dv * du' = 0
  · rw [if_pos d0, if_pos d0]
    by_cases g0 : du * v - dv * u = 0
    · rw [if_pos g0, if_pos g0]
      obtain ⟨a, ha1, ha2⟩ := d8_col D g0
      obtain ⟨e, e1, e2, he⟩ : ∃ e, du' = e * du ∧ dv' = e * dv ∧ (e = 1 ∨ e = -1) := by
        rcases d8_par D D' d0 with ⟨z1, z2⟩ | ⟨z1, z2⟩
        · exact ⟨1, by omega, by omega, Or.inl rfl⟩
        · exact ⟨-1, by omega, by omega, Or.inr rfl⟩
      have c0 := cr_0 (S := S0) (S' := S1) D ha1 ha2 e1 e2 he s1 s1'
      have nm : du * du + dv * dv = 1 ∨ du * du + dv * dv = 2 := by
        obtain ⟨q1, q2, q3⟩ := D
        rcases q1 with rfl | rfl | rfl <;> rcases q2 with rfl | rfl | rfl <;> first
          | exact Or.inl rfl
          | exact Or.inr rfl
          | exact absurd ⟨rfl, rfl⟩ q3
      have X1 : bop32 100 (q0 + S1 * du') p0 = q0 + S1 * du' - p0 := sub32 (by omega) (by omega)
      have Y1 : bop32 100 (q1 + S1 * dv') p1 = q1 + S1 * dv' - p1 := sub32 (by omega) (by omega)
      have X2 : q0 + S1 * du' - p0 = (a + e * S1) * du := by rw [e1]; grind
      have Y2 : q1 + S1 * dv' - p1 = (a + e * S1) * dv := by rw [e2]; grind
      have Xb : (q0 + S1 * du' - p0).natAbs ≤ 64 := by omega
      have Yb : (q1 + S1 * dv' - p1).natAbs ≤ 64 := by omega
      have ab : ∀ {z : Int}, (z * du).natAbs ≤ 64 → (z * dv).natAbs ≤ 64 → z.natAbs ≤ 1000 := fun {z} h1 h2 => by
        obtain ⟨q1, q2, q3⟩ := D
        rcases q1 with rfl | rfl | rfl <;> rcases q2 with rfl | rfl | rfl <;> first
          | omega
          | exact absurd ⟨rfl, rfl⟩ q3
      have a1000 := ab (z := a) (by rw [← ha1]; exact ub) (by rw [← ha2]; exact vb)
      have b1000 := ab (z := a + e * S1) (by rw [← X2]; exact Xb) (by rw [← Y2]; exact Yb)
      rw [X1, Y1, (sm (big Xb) (one x1.1) (big Yb) (one x1.2)).2, X2, Y2, ha1, ha2, show a * du * du + a * dv * dv = a * (du * du + dv * dv) from by grind, show (a + e * S1) * du * du + (a + e * S1) * dv * dv = (a + e * S1) * (du * du + dv * dv) from by grind, dvx nm a1000, dvx nm b1000]
      rw [ha1, ha2] at c0
      rw [c0]
      refine ⟨⟨⟨by omega, by omega⟩, ⟨by omega, by omega⟩, by omega⟩, ?_⟩
      unfold v891 v892
      simp only [ct2, ct3, ct4]
      generalize a + e * S1 = b
      clear c0 X1 Y1 X2 Y2 Xb Yb ab a1000 b1000 sm big one ha1 ha2 e1 e2
      omega
    · rw [if_neg g0, if_neg g0]
      refine ⟨⟨⟨by omega, by omega⟩, ⟨by omega, by omega⟩, trivial⟩, Or.inr ⟨rfl, fun z => g0 ?_⟩⟩
      obtain ⟨T, W, -, -, ⟨h3, h4⟩, -⟩ := z
      have c := (cram h3 h4).2
      rw [d0, Int.mul_zero] at c
      rw [Int.mul_comm du, Int.mul_comm dv]
      omega
  · rw [if_neg d0, if_neg d0]
    refine ⟨⟨⟨by omega, by omega⟩, ⟨by omega, by omega⟩, trivial⟩, ?_⟩
    have cd := cr_d (S := S0) (S' := S1) (u := u) (v := v) D D' rfl d0 rfl rfl
    have db : (du * dv' - dv * du').natAbs ≤ 1000 := by
      rcases d8_d D D' rfl d0 with z | z | z | z <;> rw [z] <;> decide
    have sd1 := (m32 (big S0b) db).1
    have sd2 := (m32 (big S1b) db).1
    rw [sd1, sd2, cd]
    have v1 := v441_is (t := u * dv' - v * du') sd1 d0
    have v2 := v441_is (t := u * dv - v * du) sd2 d0
    generalize du * dv' - dv * du' = d_ at *
    generalize u * dv' - v * du' = t_ at *
    generalize u * dv - v * du = w_ at *
    generalize S0 * d_ = r1 at *
    generalize S1 * d_ = r2 at *
    rcases v1 with ⟨v1, y1⟩ | ⟨v1, y1⟩
    · rcases v2 with ⟨v2, y2⟩ | ⟨v2, y2⟩
      · rw [v1, v2, if_neg (by decide), if_neg (by decide)]
        rcases endsX (t := t_) (r1 := r1) (w := w_) (r2 := r2) with ⟨e, z⟩ | ⟨e, z⟩
        · rw [e]; exact Or.inl ⟨rfl, y1, y2, z⟩
        · rw [e]; exact Or.inr ⟨rfl, fun q => q.2.2 z⟩
      · rw [v1, v2, if_neg (by decide), if_pos rfl]
        exact Or.inr ⟨rfl, fun z => y2 z.2.1⟩
    · rw [v1, if_pos rfl]
      exact Or.inr ⟨rfl, fun z => y1 z.1⟩
end PRD
