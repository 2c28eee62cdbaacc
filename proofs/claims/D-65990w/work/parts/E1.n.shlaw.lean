/-! L3: walls: both sides agree -/
section SHLAW
variable {n op r : Nat} {S : Nat → Bool} {en lo mo : Nat → Int} {M : Nat → Nat → Nat → Nat → Bool}
theorem eo_f {l u : Bool} {f : Nat → Bool} {i : Nat} (hi : i < n) (e : eo n l u f i = false) : (∃ j, j < n ∧ i ≤ j + 1 ∧ j ≤ i + 1 ∧ f j = false) ∨ (i = 0 ∧ l = false) ∨ (i + 1 = n ∧ u = false) := by
  unfold eo at e
  cases hf : f i
  · exact Or.inl ⟨i, hi, by omega, by omega, hf⟩
  rw [hf, Bool.true_and, Bool.and_eq_false_iff] at e
  rcases e with e | e
  · by_cases h0 : i = 0
    · rw [if_pos h0] at e; exact Or.inr (Or.inl ⟨h0, e⟩)
    · rw [if_neg h0] at e; exact Or.inl ⟨i - 1, by omega, by omega, by omega, e⟩
  · by_cases h0 : i + 1 < n
    · rw [if_pos h0] at e; exact Or.inl ⟨i + 1, h0, by omega, by omega, e⟩
    · rw [if_neg h0] at e; exact Or.inr (Or.inr ⟨by omega, e⟩)
theorem eo_t {l u : Bool} {f : Nat → Bool} {i j : Nat} (hj : j < n) (h1 : i ≤ j + 1) (h2 : j ≤ i + 1) (e : f j = false) : eo n l u f i = false := by
  unfold eo
  have : j = i ∨ (j + 1 = i) ∨ j = i + 1 := by omega
  rcases this with rfl | rfl | rfl
  · rw [e, Bool.false_and]
  · rw [if_neg (by omega), Nat.add_sub_cancel, e, Bool.false_and, Bool.and_false]
  · rw [if_pos hj, e, Bool.and_false, Bool.and_false]
theorem eo_l {l u : Bool} {f : Nat → Bool} {i : Nat} (h0 : i = 0) (e : l = false) : eo n l u f i = false := by
  unfold eo
  rw [if_pos h0, e, Bool.false_and, Bool.and_false]
theorem eo_u {l u : Bool} {f : Nat → Bool} {i : Nat} (h0 : i + 1 = n) (e : u = false) : eo n l u f i = false := by
  unfold eo
  rw [if_neg (show ¬ i + 1 < n by omega), e, Bool.and_false, Bool.and_false]
/-- near a side that is not wide -/
def wlN (n op k x y z : Nat) : Prop := ((op % 2 = 0 ∧ x < k) ∨ (op / 2 % 2 = 0 ∧ n ≤ x + k)) ∨ ((op / 4 % 2 = 0 ∧ y < k) ∨ (op / 4 / 2 % 2 = 0 ∧ n ≤ y + k)) ∨ (op / 16 % 2 = 0 ∧ z < k) ∨ (op / 16 / 2 % 2 = 0 ∧ n ≤ z + k)
def nr1 (k x y z x' y' z' : Nat) : Prop := (x ≤ x' + k ∧ x' ≤ x + k) ∧ (y ≤ y' + k ∧ y' ≤ y + k) ∧ z ≤ z' + k ∧ z' ≤ z + k
theorem d_f {o : Nat} (e : decide (o % 2 = 1) = false) : o % 2 = 0 := by have := of_decide_eq_false e; omega
theorem f_d {o : Nat} (e : o % 2 = 0) : decide (o % 2 = 1) = false := decide_eq_false (by omega)
variable {bY bZ : Nat → Nat → Bool}
theorem sh_A1 {t z y x : Nat} (hz : z < n) (hy : y < n) (hx : x < n) (e : shR n op bY bZ M t z y x = false) : (∃ z' y' x', z' < n ∧ y' < n ∧ x' < n ∧ nr1 1 x y z x' y' z' ∧ M t z' y' x' = false) ∨ wlN n op 1 x y z := by
  unfold shR shZ at e
  rcases eo_f hz e with ⟨z', hz', z1, z2, e⟩ | ⟨z1, z2⟩ | ⟨z1, z2⟩
  rotate_left
  · exact Or.inr (Or.inr (Or.inr (Or.inl ⟨d_f z2, by omega⟩)))
  · exact Or.inr (Or.inr (Or.inr (Or.inr ⟨d_f z2, by omega⟩)))
  have xs : ∀ y', y' < n → y ≤ y' + 1 → y' ≤ y + 1 → shX n op bY bZ M t z' y' x = false → (∃ z' y' x', z' < n ∧ y' < n ∧ x' < n ∧ nr1 1 x y z x' y' z' ∧ M t z' y' x' = false) ∨ wlN n op 1 x y z := fun y' hy' y1 y2 e => by
    unfold shX at e
    split at e
    · exact Or.inl ⟨z', y', x, hz', hy', hx, ⟨⟨by omega, by omega⟩, ⟨by omega, by omega⟩, by omega, by omega⟩, e⟩
    · rcases eo_f hx e with ⟨x', hx', x1, x2, e⟩ | ⟨x1, x2⟩ | ⟨x1, x2⟩
      · exact Or.inl ⟨z', y', x', hz', hy', hx', ⟨⟨by omega, by omega⟩, ⟨by omega, by omega⟩, by omega, by omega⟩, e⟩
      · exact Or.inr (Or.inl (Or.inl ⟨d_f x2, by omega⟩))
      · exact Or.inr (Or.inl (Or.inr ⟨d_f x2, by omega⟩))
  unfold shY at e
  split at e
  · exact xs y hy (by omega) (by omega) e
  · rcases eo_f hy e with ⟨y', hy', y1, y2, e⟩ | ⟨y1, y2⟩ | ⟨y1, y2⟩
    · exact xs y' hy' y1 y2 e
    · exact Or.inr (Or.inr (Or.inl (Or.inl ⟨d_f y2, by omega⟩)))
    · exact Or.inr (Or.inr (Or.inl (Or.inr ⟨d_f y2, by omega⟩)))
theorem sh_A : ∀ (k : Nat) {t z y x : Nat}, z < n → y < n → x < n → itr (shR n op bY bZ) k M t z y x = false → (∃ z' y' x', z' < n ∧ y' < n ∧ x' < n ∧ nr1 k x y z x' y' z' ∧ M t z' y' x' = false) ∨ wlN n op k x y z := by
  intro k
  induction k with
  | zero => intro t z y x hz hy hx e; exact Or.inl ⟨z, y, x, hz, hy, hx, ⟨⟨by omega, by omega⟩, ⟨by omega, by omega⟩, by omega, by omega⟩, e⟩
  | succ k ih =>
    intro t z y x hz hy hx e
    rcases sh_A1 hz hy hx (show shR n op bY bZ (itr (shR n op bY bZ) k M) t z y x = false from e) with ⟨z1, y1, x1, hz1, hy1, hx1, nr, e1⟩ | w
    · unfold nr1 at nr
      rcases ih hz1 hy1 hx1 e1 with ⟨z2, y2, x2, hz2, hy2, hx2, nr2, e2⟩ | w
      · refine Or.inl ⟨z2, y2, x2, hz2, hy2, hx2, ?_, e2⟩
        unfold nr1 at nr2 ⊢
        omega
      · refine Or.inr ?_
        unfold wlN at w ⊢
        omega
    · refine Or.inr ?_
      unfold wlN at w ⊢
      omega
theorem sh_B1 {t z y x z' y' x' : Nat} (hz : z' < n) (hy : y' < n) (hx : x' < n) (nr : nr1 1 x y z x' y' z') (b1 : bZ t z' = false) (b2 : bY t y' = false) (e : M t z' y' x' = false) : shR n op bY bZ M t z y x = false := by
  obtain ⟨⟨x1, x2⟩, ⟨y1, y2⟩, z1, z2⟩ := nr
  have eX : shX n op bY bZ M t z' y' x = false := by
    unfold shX
    rw [b1, b2, if_neg (by decide)]
    exact eo_t hx x1 x2 e
  have eY : shY n op bZ (shX n op bY bZ M) t z' y x = false := by
    unfold shY
    rw [b1, if_neg (by decide)]
    exact eo_t hy y1 y2 eX
  unfold shR shZ
  exact eo_t hz z1 z2 eY
theorem sh_W1 {t z y x : Nat} (hz : z < n) (hy : y < n) (hx : x < n) (w : wlN n op 1 x y z) (b1 : bZ t z = false) (b2 : bY t y = false) : shR n op bY bZ M t z y x = false := by
  have fromX : shX n op bY bZ M t z y x = false → shR n op bY bZ M t z y x = false := fun e => by
    unfold shR shZ
    refine eo_t hz (by omega) (by omega) ?_
    show shY n op bZ (shX n op bY bZ M) t z y x = false
    unfold shY
    rw [b1, if_neg (by decide)]
    exact eo_t hy (by omega) (by omega) e
  have fromY : shY n op bZ (shX n op bY bZ M) t z y x = false → shR n op bY bZ M t z y x = false := fun e => by
    unfold shR shZ
    exact eo_t hz (by omega) (by omega) e
  rcases w with (⟨w1, w2⟩ | ⟨w1, w2⟩) | (⟨w1, w2⟩ | ⟨w1, w2⟩) | ⟨w1, w2⟩ | ⟨w1, w2⟩
  · refine fromX ?_
    unfold shX
    rw [b1, b2, if_neg (by decide)]
    exact eo_l (by omega) (f_d w1)
  · refine fromX ?_
    unfold shX
    rw [b1, b2, if_neg (by decide)]
    exact eo_u (by omega) (f_d w1)
  · refine fromY ?_
    unfold shY
    rw [b1, if_neg (by decide)]
    exact eo_l (by omega) (f_d w1)
  · refine fromY ?_
    unfold shY
    rw [b1, if_neg (by decide)]
    exact eo_u (by omega) (f_d w1)
  · unfold shR shZ
    exact eo_l (by omega) (f_d w1)
  · unfold shR shZ
    exact eo_u (by omega) (f_d w1)
/-- one step towards -/
def twd (x x' : Nat) : Nat := if x' < x then x - 1 else if x < x' then x + 1 else x
theorem twd_is {x x' k : Nat} (h1 : x ≤ x' + (k + 1)) (h2 : x' ≤ x + (k + 1)) (hx : x < n) (hx' : x' < n) : twd x x' < n ∧ (twd x x' ≤ x' + k ∧ x' ≤ twd x x' + k) ∧ (x ≤ twd x x' + 1 ∧ twd x x' ≤ x + 1) ∧ ((x ≤ twd x x' ∧ twd x x' ≤ x') ∨ (x' ≤ twd x x' ∧ twd x x' ≤ x)) := by
  unfold twd
  split
  · omega
  · split <;> omega
theorem byd_cv {o x x' c q : Nat} {l u : Int} (b1 : byd o l u ((8 * x + q : Nat) : Int) = false) (b2 : byd o l u ((8 * x' + q : Nat) : Int) = false) (h : (x ≤ c ∧ c ≤ x') ∨ (x' ≤ c ∧ c ≤ x)) : byd o l u ((8 * c + q : Nat) : Int) = false := by
  have b1 := of_decide_eq_false b1
  have b2 := of_decide_eq_false b2
  exact decide_eq_false (by omega)
theorem sh_B : ∀ (k : Nat) {t z y x : Nat}, z < n → y < n → x < n → bZo op en t z = false → bYo op en t y = false → (∀ z' y' x', z' < n → y' < n → x' < n → nr1 k x y z x' y' z' → bZo op en t z' = false → bYo op en t y' = false → M t z' y' x' = false → itr (shR n op (bYo op en) (bZo op en)) k M t z y x = false) ∧ (wlN n op k x y z → itr (shR n op (bYo op en) (bZo op en)) k M t z y x = false) := by
  intro k
  induction k with
  | zero =>
    intro t z y x hz hy hx b1 b2
    refine ⟨fun z' y' x' hz' hy' hx' nr c1 c2 e => ?_, fun w => ?_⟩
    · unfold nr1 at nr
      rw [show z = z' by omega, show y = y' by omega, show x = x' by omega]
      exact e
    · unfold wlN at w; omega
  | succ k ih =>
    intro t z y x hz hy hx b1 b2
    refine ⟨fun z' y' x' hz' hy' hx' nr c1 c2 e => ?_, fun w => ?_⟩
    · obtain ⟨⟨n1, n2⟩, ⟨n3, n4⟩, n5, n6⟩ := nr
      obtain ⟨x1, x2, x3, x4⟩ := twd_is n1 n2 hx hx'
      obtain ⟨y1, y2, y3, y4⟩ := twd_is n3 n4 hy hy'
      obtain ⟨z1, z2, z3, z4⟩ := twd_is n5 n6 hz hz'
      have d1 : bZo op en t (twd z z') = false := byd_cv b1 c1 z4
      have d2 : bYo op en t (twd y y') = false := byd_cv b2 c2 y4
      have e1 := (ih z1 y1 x1 d1 d2).1 z' y' x' hz' hy' hx' ⟨x2, y2, z2⟩ c1 c2 e
      exact sh_B1 z1 y1 x1 ⟨x3, y3, z3⟩ d1 d2 e1
    · by_cases w1 : wlN n op 1 x y z
      · exact sh_W1 hz hy hx w1 b1 b2
      have b1' := of_decide_eq_false b1
      have b2' := of_decide_eq_false b2
      rcases w with (⟨w1', w2⟩ | ⟨w1', w2⟩) | (⟨w1', w2⟩ | ⟨w1', w2⟩) | ⟨w1', w2⟩ | ⟨w1', w2⟩
      · have h0 : ¬ x = 0 := fun z => w1 (Or.inl (Or.inl ⟨w1', by omega⟩))
        exact sh_B1 (x' := x - 1) hz hy (by omega) ⟨⟨by omega, by omega⟩, ⟨by omega, by omega⟩, by omega, by omega⟩ b1 b2 ((ih hz hy (by omega) b1 b2).2 (Or.inl (Or.inl ⟨w1', by omega⟩)))
      · have h0 : ¬ n ≤ x + 1 := fun z => w1 (Or.inl (Or.inr ⟨w1', z⟩))
        exact sh_B1 (x' := x + 1) hz hy (by omega) ⟨⟨by omega, by omega⟩, ⟨by omega, by omega⟩, by omega, by omega⟩ b1 b2 ((ih hz hy (by omega) b1 b2).2 (Or.inl (Or.inr ⟨w1', by omega⟩)))
      · have h0 : ¬ y = 0 := fun z => w1 (Or.inr (Or.inl (Or.inl ⟨w1', by omega⟩)))
        have d2 : bYo op en t (y - 1) = false := decide_eq_false (by omega)
        exact sh_B1 (y' := y - 1) hz (by omega) hx ⟨⟨by omega, by omega⟩, ⟨by omega, by omega⟩, by omega, by omega⟩ b1 d2 ((ih hz (by omega) hx b1 d2).2 (Or.inr (Or.inl (Or.inl ⟨w1', by omega⟩))))
      · have h0 : ¬ n ≤ y + 1 := fun z => w1 (Or.inr (Or.inl (Or.inr ⟨w1', z⟩)))
        have d2 : bYo op en t (y + 1) = false := decide_eq_false (by omega)
        exact sh_B1 (y' := y + 1) hz (by omega) hx ⟨⟨by omega, by omega⟩, ⟨by omega, by omega⟩, by omega, by omega⟩ b1 d2 ((ih hz (by omega) hx b1 d2).2 (Or.inr (Or.inl (Or.inr ⟨w1', by omega⟩))))
      · have h0 : ¬ z = 0 := fun z => w1 (Or.inr (Or.inr (Or.inl ⟨w1', by omega⟩)))
        have d1 : bZo op en t (z - 1) = false := decide_eq_false (by omega)
        exact sh_B1 (z' := z - 1) (by omega) hy hx ⟨⟨by omega, by omega⟩, ⟨by omega, by omega⟩, by omega, by omega⟩ d1 b2 ((ih (by omega) hy hx d1 b2).2 (Or.inr (Or.inr (Or.inl ⟨w1', by omega⟩))))
      · have h0 : ¬ n ≤ z + 1 := fun z => w1 (Or.inr (Or.inr (Or.inr ⟨w1', z⟩)))
        have d1 : bZo op en t (z + 1) = false := decide_eq_false (by omega)
        exact sh_B1 (z' := z + 1) (by omega) hy hx ⟨⟨by omega, by omega⟩, ⟨by omega, by omega⟩, by omega, by omega⟩ d1 b2 ((ih (by omega) hy hx d1 b2).2 (Or.inr (Or.inr (Or.inr ⟨w1', by omega⟩))))
theorem opM_iff {X Y Z : Int} : opM op lo mo X Y Z = true ↔ (op % 2 = 1 ∧ X < lo 0) ∨ (op / 2 % 2 = 1 ∧ mo 0 < X) ∨ (op / 4 % 2 = 1 ∧ Y < lo 1) ∨ (op / 8 % 2 = 1 ∧ mo 1 < Y) ∨ (op / 16 % 2 = 1 ∧ Z < lo 2) ∨ (op / 32 % 2 = 1 ∧ mo 2 < Z) := by
  unfold opM
  simp only [Bool.or_eq_true, Bool.and_eq_true, decide_eq_true_eq]
theorem crn_mid : ∀ t : Fin 24, ∀ a : Fin 3, (∃ k : Fin 4, 4 * crn t k a ≤ rT t a) ∧ ∃ k : Fin 4, rT t a ≤ 4 * crn t k a := by decide +kernel
/-- the middle of a grain of S is within its bounds -/
theorem bo_mid (bo : BoI n (fun g k _ => g < gN n ∧ k < 4 ∧ S g = true) lo mo) {g a : Nat} (hg : g < gN n) (hS : S g = true) (ha : a < 3) : lo a ≤ ((g8 n g a : Nat) : Int) ∧ ((g8 n g a : Nat) : Int) ≤ mo a := by
  obtain ⟨_, _, _, _, ht⟩ := g_lt hg
  obtain ⟨⟨k1, e1⟩, k2, e2⟩ := crn_mid ⟨gSo g, ht⟩ ⟨a, ha⟩
  simp only at e1 e2
  have b1 := ((bo a ha).1 g k1 ⟨hg, k1.2, hS⟩).1
  have b2 := ((bo a ha).1 g k2 ⟨hg, k2.2, hS⟩).2
  have e8 := g8_C (n := n) (g := g) ha
  unfold cv2 at b1 b2
  omega
theorem wl_lo {o x q r : Nat} {i l : Int} (h : (x : Int) + i < 0) (hi : -(r : Int) ≤ i) (hq : q < 8) (hl : 0 ≤ l) (w : ¬ (o % 2 = 1 ∧ ((8 * x + q : Nat) : Int) + 8 * i < l)) : o % 2 = 0 ∧ x < r := by
  have t : ((8 * x + q : Nat) : Int) + 8 * i < l := by omega
  by_cases e : o % 2 = 1
  · exact absurd ⟨e, t⟩ w
  · clear w; exact ⟨by omega, by omega⟩
theorem wl_hi {o x q r n : Nat} {i u : Int} (h : (n : Int) ≤ (x : Int) + i) (hi : i ≤ r) (hq : 1 ≤ q) (hu : u ≤ 8 * n) (w : ¬ (o % 2 = 1 ∧ u < ((8 * x + q : Nat) : Int) + 8 * i)) : o % 2 = 0 ∧ n ≤ x + r := by
  have t : u < ((8 * x + q : Nat) : Int) + 8 * i := by omega
  by_cases e : o % 2 = 1
  · exact absurd ⟨e, t⟩ w
  · clear w; exact ⟨by omega, by omega⟩
set_option maxHeartbeats 4000000 in
theorem sh_law (bo : BoI n (fun g k _ => g < gN n ∧ k < 4 ∧ S g = true) lo mo) (ee : ∀ a, a < 3 → EdS false (enP n S a 24) (en (2 * a)) ∧ EdS true (enP n S a 24) (en (2 * a + 1))) {g : Nat} (hg : g < gN n) (hS : S g = true) : shI2 n op r en S g = dpK n op r lo mo S g := by
  obtain ⟨_, x1, x2, x3, ht⟩ := g_lt hg
  have bd : ∀ a, a < 3 → lo a = 4 * en (2 * a) ∧ mo a = 4 * en (2 * a + 1) ∧ 0 ≤ lo a ∧ mo a ≤ 8 * n := fun a ha => by
    obtain ⟨v, w, e1, e2, e3, e4, e5, e6⟩ := bo.ed ha ⟨g, hg, hS⟩
    have u1 := (ee a ha).1.uniq e5
    have u2 := (ee a ha).2.uniq e6
    omega
  have b0 := bd 0 (by decide)
  have b1 := bd 1 (by decide)
  have b2 := bd 2 (by decide)
  simp only [Nat.mul_zero, Nat.zero_add, Nat.mul_one, show 2 * 2 = 4 from rfl, show 2 + 1 = 3 from rfl, show 4 + 1 = 5 from rfl] at b0 b1 b2
  have m0 := bo_mid bo hg hS (a := 0) (by decide)
  have m1 := bo_mid bo hg hS (a := 1) (by decide)
  have m2 := bo_mid bo hg hS (a := 2) (by decide)
  have e0 : g8 n g 0 = 8 * gX n g + rT (gSo g) 0 := g8_C (a := 0) (by decide)
  have e1 : g8 n g 1 = 8 * gY n g + rT (gSo g) 1 := g8_C (a := 1) (by decide)
  have e2 : g8 n g 2 = 8 * gZ n g + rT (gSo g) 2 := g8_C (a := 2) (by decide)
  have r0 := rT_b hg (a := 0) (by decide)
  have r1 := rT_b hg (a := 1) (by decide)
  have r2 := rT_b hg (a := 2) (by decide)
  have bZg : bZo op en (gSo g) (gZ n g) = false := decide_eq_false (by omega)
  have bYg : bYo op en (gSo g) (gY n g) = false := decide_eq_false (by omega)
  have cell : ∀ x' y' z', shB n op en S (gSo g) z' y' x' = false ↔ S (gI n x' y' z' (gSo g)) = false ∧ opM op lo mo ((8 * x' + rT (gSo g) 0 : Nat) : Int) ((8 * y' + rT (gSo g) 1 : Nat) : Int) ((8 * z' + rT (gSo g) 2 : Nat) : Int) = false := fun x' y' z' => by
    unfold shB
    rw [Bool.or_eq_false_iff, Bool.or_eq_false_iff, Bool.or_eq_false_iff]
    refine and_congr Iff.rfl ?_
    have : opM op lo mo ((8 * x' + rT (gSo g) 0 : Nat) : Int) ((8 * y' + rT (gSo g) 1 : Nat) : Int) ((8 * z' + rT (gSo g) 2 : Nat) : Int) = false ↔ ¬ ((op % 2 = 1 ∧ ((8 * x' + rT (gSo g) 0 : Nat) : Int) < lo 0) ∨ (op / 2 % 2 = 1 ∧ mo 0 < ((8 * x' + rT (gSo g) 0 : Nat) : Int)) ∨ (op / 4 % 2 = 1 ∧ ((8 * y' + rT (gSo g) 1 : Nat) : Int) < lo 1) ∨ (op / 8 % 2 = 1 ∧ mo 1 < ((8 * y' + rT (gSo g) 1 : Nat) : Int)) ∨ (op / 16 % 2 = 1 ∧ ((8 * z' + rT (gSo g) 2 : Nat) : Int) < lo 2) ∨ (op / 32 % 2 = 1 ∧ mo 2 < ((8 * z' + rT (gSo g) 2 : Nat) : Int))) := by
      rw [← opM_iff, Bool.not_eq_true]
    rw [this]
    unfold bYo bZo bXo byd
    rw [decide_eq_false_iff_not, decide_eq_false_iff_not, decide_eq_false_iff_not, show op / 4 / 2 = op / 8 from by omega, show op / 16 / 2 = op / 32 from by omega, ← b0.1, ← b0.2.1, ← b1.1, ← b1.2.1, ← b2.1, ← b2.2.1]
    constructor
    · rintro ⟨⟨p, q⟩, s⟩ (w | w | w | w | w | w)
      · exact s (Or.inl w)
      · exact s (Or.inr w)
      · exact p (Or.inl w)
      · exact p (Or.inr w)
      · exact q (Or.inl w)
      · exact q (Or.inr w)
    · intro w
      refine ⟨⟨fun z => w ?_, fun z => w ?_⟩, fun z => w ?_⟩
      · rcases z with z | z
        · exact Or.inr (Or.inr (Or.inl z))
        · exact Or.inr (Or.inr (Or.inr (Or.inl z)))
      · rcases z with z | z
        · exact Or.inr (Or.inr (Or.inr (Or.inr (Or.inl z))))
        · exact Or.inr (Or.inr (Or.inr (Or.inr (Or.inr z))))
      · rcases z with z | z
        · exact Or.inl z
        · exact Or.inr (Or.inl z)
  have wf : ∀ i j k : Int, wM n op lo mo S g i j k = false ↔ ¬ (inRs n g i j k ∧ S (gI n ((gX n g : Int) + i).toNat ((gY n g : Int) + j).toNat ((gZ n g : Int) + k).toNat (gSo g)) = true) ∧ opM op lo mo (((g8 n g 0 : Nat) : Int) + 8 * i) (((g8 n g 1 : Nat) : Int) + 8 * j) (((g8 n g 2 : Nat) : Int) + 8 * k) = false := fun i j k => by
    exact wM_ff
  unfold shI2
  refine Bool.eq_iff_iff.mpr ?_
  rw [dpK_iff]
  constructor
  · intro hD i j k hi1 hi2 hj1 hj2 hk1 hk2
    cases hw : wM n op lo mo S g i j k
    rotate_left
    · rfl
    exfalso
    obtain ⟨w1, w2⟩ := (wf i j k).mp hw
    have w3 : ¬ _ := fun z => by rw [opM_iff.mpr z] at w2; cases w2
    obtain ⟨B1, B2⟩ := sh_B (n := n) (op := op) (en := en) (M := shB n op en S) r x3 x2 x1 bZg bYg
    by_cases inn : inRs n g i j k
    · obtain ⟨⟨i1, i2⟩, ⟨i3, i4⟩, i5, i6⟩ := inn
      have hs : S (gI n ((gX n g : Int) + i).toNat ((gY n g : Int) + j).toNat ((gZ n g : Int) + k).toNat (gSo g)) = false := by
        cases z : S (gI n ((gX n g : Int) + i).toNat ((gY n g : Int) + j).toNat ((gZ n g : Int) + k).toNat (gSo g))
        · rfl
        · exact absurd ⟨⟨⟨i1, i2⟩, ⟨i3, i4⟩, i5, i6⟩, z⟩ w1
      obtain ⟨x', ex⟩ : ∃ x' : Nat, (gX n g : Int) + i = x' := ⟨((gX n g : Int) + i).toNat, by omega⟩
      obtain ⟨y', ey⟩ : ∃ y' : Nat, (gY n g : Int) + j = y' := ⟨((gY n g : Int) + j).toNat, by omega⟩
      obtain ⟨z', ez⟩ : ∃ z' : Nat, (gZ n g : Int) + k = z' := ⟨((gZ n g : Int) + k).toNat, by omega⟩
      rw [ex, ey, ez, tn, tn, tn] at hs
      rw [show ((g8 n g 0 : Nat) : Int) + 8 * i = ((8 * x' + rT (gSo g) 0 : Nat) : Int) by omega, show ((g8 n g 1 : Nat) : Int) + 8 * j = ((8 * y' + rT (gSo g) 1 : Nat) : Int) by omega, show ((g8 n g 2 : Nat) : Int) + 8 * k = ((8 * z' + rT (gSo g) 2 : Nat) : Int) by omega] at w2 w3
      have h1 : bZo op en (gSo g) z' = false := decide_eq_false (by omega)
      have h2 : bYo op en (gSo g) y' = false := decide_eq_false (by omega)
      rw [B1 z' y' x' (by omega) (by omega) (by omega) ⟨⟨by omega, by omega⟩, ⟨by omega, by omega⟩, by omega, by omega⟩ h1 h2 ((cell x' y' z').mpr ⟨hs, w2⟩)] at hD
      cases hD
    · have : wlN n op r (gX n g) (gY n g) (gZ n g) := by
        rw [e0, e1, e2] at w3
        rcases Classical.em ((gX n g : Int) + i < 0) with c1 | c1
        · exact Or.inl (Or.inl (wl_lo c1 hi1 r0.2 b0.2.2.1 (fun z => w3 (Or.inl z))))
        rcases Classical.em ((n : Int) ≤ (gX n g : Int) + i) with c2 | c2
        · exact Or.inl (Or.inr (wl_hi c2 hi2 r0.1 b0.2.2.2 (fun z => w3 (Or.inr (Or.inl z)))))
        rcases Classical.em ((gY n g : Int) + j < 0) with c3 | c3
        · exact Or.inr (Or.inl (Or.inl (wl_lo c3 hj1 r1.2 b1.2.2.1 (fun z => w3 (Or.inr (Or.inr (Or.inl z)))))))
        rcases Classical.em ((n : Int) ≤ (gY n g : Int) + j) with c4 | c4
        · exact Or.inr (Or.inl (Or.inr (wl_hi c4 hj2 r1.1 b1.2.2.2 (fun z => w3 (Or.inr (Or.inr (Or.inr (Or.inl ⟨by rw [← z.1]; omega, z.2⟩))))))))
        rcases Classical.em ((gZ n g : Int) + k < 0) with c5 | c5
        · exact Or.inr (Or.inr (Or.inl (wl_lo c5 hk1 r2.2 b2.2.2.1 (fun z => w3 (Or.inr (Or.inr (Or.inr (Or.inr (Or.inl z)))))))))
        rcases Classical.em ((n : Int) ≤ (gZ n g : Int) + k) with c6 | c6
        · exact Or.inr (Or.inr (Or.inr (wl_hi c6 hk2 r2.1 b2.2.2.2 (fun z => w3 (Or.inr (Or.inr (Or.inr (Or.inr (Or.inr ⟨by rw [← z.1]; omega, z.2⟩)))))))))
        exact absurd ⟨⟨by clear w3; omega, by clear w3; omega⟩, ⟨by clear w3; omega, by clear w3; omega⟩, by clear w3; omega, by clear w3; omega⟩ inn
      rw [B2 this] at hD
      cases hD
  · intro dp
    cases hD : itr (shR n op (bYo op en) (bZo op en)) r (shB n op en S) (gSo g) (gZ n g) (gY n g) (gX n g)
    rotate_left
    · rfl
    exfalso
    have no : ∀ i j k : Int, -(r : Int) ≤ i → i ≤ r → -(r : Int) ≤ j → j ≤ r → -(r : Int) ≤ k → k ≤ r → wM n op lo mo S g i j k = false → False := fun i j k h1 h2 h3 h4 h5 h6 w => by rw [dp i j k h1 h2 h3 h4 h5 h6] at w; cases w
    have opF : ∀ X Y Z : Int, ¬ ((op % 2 = 1 ∧ X < lo 0) ∨ (op / 2 % 2 = 1 ∧ mo 0 < X) ∨ (op / 4 % 2 = 1 ∧ Y < lo 1) ∨ (op / 8 % 2 = 1 ∧ mo 1 < Y) ∨ (op / 16 % 2 = 1 ∧ Z < lo 2) ∨ (op / 32 % 2 = 1 ∧ mo 2 < Z)) → opM op lo mo X Y Z = false := fun X Y Z w => by
      cases z : opM op lo mo X Y Z
      · rfl
      · exact absurd (opM_iff.mp z) w
    rcases sh_A r x3 x2 x1 hD with ⟨z', y', x', hz', hy', hx', nr, e⟩ | w
    · obtain ⟨⟨n1, n2⟩, ⟨n3, n4⟩, n5, n6⟩ := nr
      obtain ⟨s1, s2⟩ := (cell x' y' z').mp e
      refine no ((x' : Int) - gX n g) ((y' : Int) - gY n g) ((z' : Int) - gZ n g) (by omega) (by omega) (by omega) (by omega) (by omega) (by omega) ((wf _ _ _).mpr ⟨fun z => ?_, ?_⟩)
      · rw [show ((gX n g : Int) + ((x' : Int) - gX n g)).toNat = x' by omega, show ((gY n g : Int) + ((y' : Int) - gY n g)).toNat = y' by omega, show ((gZ n g : Int) + ((z' : Int) - gZ n g)).toNat = z' by omega, s1] at z
        exact Bool.false_ne_true z.2
      · rw [show ((g8 n g 0 : Nat) : Int) + 8 * ((x' : Int) - gX n g) = ((8 * x' + rT (gSo g) 0 : Nat) : Int) by omega, show ((g8 n g 1 : Nat) : Int) + 8 * ((y' : Int) - gY n g) = ((8 * y' + rT (gSo g) 1 : Nat) : Int) by omega, show ((g8 n g 2 : Nat) : Int) + 8 * ((z' : Int) - gZ n g) = ((8 * z' + rT (gSo g) 2 : Nat) : Int) by omega]
        exact s2
    · rcases w with (⟨w1, w2⟩ | ⟨w1, w2⟩) | (⟨w1, w2⟩ | ⟨w1, w2⟩) | ⟨w1, w2⟩ | ⟨w1, w2⟩
      · exact no (-((gX n g : Int) + 1)) 0 0 (by omega) (by omega) (by omega) (by omega) (by omega) (by omega) ((wf _ _ _).mpr ⟨fun z => by have := z.1; unfold inRs at this; omega, opF _ _ _ (fun z => by rcases z with z | z | z | z | z | z <;> omega)⟩)
      · exact no ((n : Int) - gX n g) 0 0 (by omega) (by omega) (by omega) (by omega) (by omega) (by omega) ((wf _ _ _).mpr ⟨fun z => by have := z.1; unfold inRs at this; omega, opF _ _ _ (fun z => by rcases z with z | z | z | z | z | z <;> omega)⟩)
      · exact no 0 (-((gY n g : Int) + 1)) 0 (by omega) (by omega) (by omega) (by omega) (by omega) (by omega) ((wf _ _ _).mpr ⟨fun z => by have := z.1; unfold inRs at this; omega, opF _ _ _ (fun z => by rcases z with z | z | z | z | z | z <;> omega)⟩)
      · exact no 0 ((n : Int) - gY n g) 0 (by omega) (by omega) (by omega) (by omega) (by omega) (by omega) ((wf _ _ _).mpr ⟨fun z => by have := z.1; unfold inRs at this; omega, opF _ _ _ (fun z => by rcases z with z | z | z | z | z | z <;> omega)⟩)
      · exact no 0 0 (-((gZ n g : Int) + 1)) (by omega) (by omega) (by omega) (by omega) (by omega) (by omega) ((wf _ _ _).mpr ⟨fun z => by have := z.1; unfold inRs at this; omega, opF _ _ _ (fun z => by rcases z with z | z | z | z | z | z <;> omega)⟩)
      · exact no 0 0 ((n : Int) - gZ n g) (by omega) (by omega) (by omega) (by omega) (by omega) (by omega) ((wf _ _ _).mpr ⟨fun z => by have := z.1; unfold inRs at this; omega, opF _ _ _ (fun z => by rcases z with z | z | z | z | z | z <;> omega)⟩)
end SHLAW
