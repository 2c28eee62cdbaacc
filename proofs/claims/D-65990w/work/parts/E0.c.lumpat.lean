/-! L3: the greatest lump (desk) -/
/-- the rests of middles that there are (and 8) -/
def rsN (a : Nat) : Nat := [1, 2, 4, 6, 7, 8].getD a 8
/-- sorts with rests in z and y, by x -/
def soT (a b m : Nat) : Int := match ((List.range 24).filter (fun t => rT t 2 == rsN a && rT t 1 == rsN b))[m]? with
  | some t => (t : Int)
  | none => -1
def SoC (B : Nat) (h : AH) : Prop := ∀ a b m, a < 5 → b < 5 → m < 2 → hv h (B + 91) (10 * a + 2 * b + m) = soT a b m
/-- t1, t2 are the sorts with some rests in z and y -/
def RowT (ra rb : Nat) (t1 t2 : Int) : Prop := (t1 = -1 ∨ ∃ t : Nat, t < 24 ∧ t1 = (t : Int) ∧ rT t 1 = rb ∧ rT t 2 = ra) ∧ (t2 = -1 ∨ ∃ t : Nat, t < 24 ∧ t2 = (t : Int) ∧ rT t 1 = rb ∧ rT t 2 = ra) ∧ (∀ u, u < 24 → rT u 1 = rb → rT u 2 = ra → t1 = (u : Int) ∨ t2 = (u : Int)) ∧ ∀ t t' : Nat, t < 24 → t' < 24 → t1 = (t : Int) → t2 = (t' : Int) → rT t 0 < rT t' 0
theorem so_row0 : ∀ a b : Fin 5, (soT a b 0 = -1 ∨ ∃ t : Fin 24, soT a b 0 = ((t : Nat) : Int) ∧ rT t 1 = rsN b ∧ rT t 2 = rsN a) ∧ (soT a b 1 = -1 ∨ ∃ t : Fin 24, soT a b 1 = ((t : Nat) : Int) ∧ rT t 1 = rsN b ∧ rT t 2 = rsN a) ∧ (∀ u : Fin 24, rT u 1 = rsN b → rT u 2 = rsN a → soT a b 0 = ((u : Nat) : Int) ∨ soT a b 1 = ((u : Nat) : Int)) ∧ ∀ t t' : Fin 24, soT a b 0 = ((t : Nat) : Int) → soT a b 1 = ((t' : Nat) : Int) → rT t 0 < rT t' 0 := by decide +kernel
theorem so_row {a b : Nat} (ha : a < 5) (hb : b < 5) : RowT (rsN a) (rsN b) (soT a b 0) (soT a b 1) := by
  obtain ⟨h1, h2, h3, h4⟩ := so_row0 ⟨a, ha⟩ ⟨b, hb⟩
  refine ⟨?_, ?_, fun u hu e1 e2 => h3 ⟨u, hu⟩ e1 e2, fun t t' ht ht' e1 e2 => h4 ⟨t, ht⟩ ⟨t', ht'⟩ e1 e2⟩
  · rcases h1 with h1 | ⟨t, q1, q2, q3⟩
    · exact Or.inl h1
    · exact Or.inr ⟨t, t.2, q1, q2, q3⟩
  · rcases h2 with h2 | ⟨t, q1, q2, q3⟩
    · exact Or.inl h2
    · exact Or.inr ⟨t, t.2, q1, q2, q3⟩
theorem rs_all : ∀ t : Fin 24, (rT t 1 = 1 ∨ rT t 1 = 2 ∨ rT t 1 = 4 ∨ rT t 1 = 6 ∨ rT t 1 = 7) ∧ (rT t 2 = 1 ∨ rT t 2 = 2 ∨ rT t 2 = 4 ∨ rT t 2 = 6 ∨ rT t 2 = 7) := by decide +kernel
theorem rs_b : ∀ a : Fin 6, 1 ≤ rsN a ∧ rsN a ≤ 8 ∧ ((a : Nat) < 5 → rsN a < 8 ∧ rsN a < rsN (a + 1)) := by decide +kernel
section PIECE
variable {n : Nat} {W Se Fs S4 M : Nat → Bool} {g0 k : Nat}
/-- a piece is poured and run: what was seen, what is new -/
theorem piece_law (hg0 : g0 < gN n) (hW0 : W g0 = true) (hS0 : Se g0 = false) (M1 : ∀ g, g < gN n → (M g = true ↔ g = g0)) (cl : Clo n W Se (fun _ => false) (fun _ _ => False)) (s4 : ∀ g, g < gN n → (Se g || M g) = true → S4 g = true) (c4 : Clo n W S4 (fun _ => false) (fun _ _ => False)) (ge : Gen n W (fun g => Se g || M g) S4) (w4 : ∀ g, g < gN n → S4 g = true → W g = true) (ck : k + cntN (fun g => Se g || M g) (gN n) = cntN S4 (gN n) + cntN (fun g => (fun _ => false) g || M g) (gN n)) :
    (∀ g, g < gN n → (S4 g = true ↔ Se g = true ∨ Rch n W g0 g)) ∧ k + cntN Se (gN n) = cntN S4 (gN n) := by
  refine ⟨fun g hg => ⟨fun q => ?_, fun q => ?_⟩, ?_⟩
  · exact ge (fun g => Se g = true ∨ Rch n W g0 g) (fun g hg q => by
      rw [Bool.or_eq_true] at q
      rcases q with q | q
      · exact Or.inl q
      · rw [M1 g hg] at q; subst q; exact Or.inr Rch.rf) (fun g g' f h1 h2 h3 h4 h5 h6 => by
      rcases h4 with h4 | h4
      · exact Or.inl (cl g g' f h1 h2 h3 h4 rfl (fun q => q) h5 h6)
      · exact Or.inr (h4.st h1 h2 h3 h5 h6)) g hg q
  · rcases q with q | q
    · exact s4 g hg (by rw [q]; rfl)
    · exact q (fun g => S4 g = true) (s4 g0 hg0 (by rw [(M1 g0 hg0).mpr rfl, Bool.or_true])) (fun g g' f h1 h2 h3 h4 h5 h6 => c4 g g' f h1 h2 h3 h4 rfl (fun q => q) h5 h6)
  · have e1 : cntN (fun g => Se g || M g) (gN n) + cntN (fun _ => false) (gN n) = cntN Se (gN n) + cntN (fun g => (fun _ => false) g || M g) (gN n) := cnt_add (n := n) (Se := Se) (Fs := fun _ => false) (M := M) (fun g hg e => by rw [M1 g hg] at e; rw [e]; exact hS0) (fun g hg e => by cases e)
    have e2 : cntN (fun _ => false) (gN n) = 0 := cntN_none _ (fun _ _ => rfl)
    omega
end PIECE
section GRU
variable {n : Nat} {S : Nat → Bool} {s : Nat} {T T' T0 : Nat → Bool} {b b' : Nat}
/-- there is one greatest piece -/
theorem grB.uniq (p : grB n S s b T T0) (q : grB n S s b' T' T0) : b = b' ∧ ∀ x, x < gN n → T x = T' x := by
  have pos : ∀ {g}, g < gN n → pcN n S g ≠ 0 := fun hg => Nat.pos_iff_ne_zero.mp (pc_pos hg)
  rcases p with ⟨p1, p2, p3⟩ | ⟨c, g, p1, p2, p3, p4, p5, p6⟩ <;> rcases q with ⟨q1, q2, q3⟩ | ⟨c', g', q1, q2, q3, q4, q5, q6⟩
  · exact ⟨by omega, fun x hx => (p2 x hx).trans (q2 x hx).symm⟩
  · exact absurd q2 (p3 c' g' q1)
  · exact absurd p2 (q3 c g p1)
  · have a1 := p6 c' g' q1 q2
    have a2 := q6 c g p1 p2
    have eb : b = b' := by omega
    have ec : c = c' := by
      apply Classical.byContradiction
      intro w
      rcases Nat.lt_or_gt_of_ne w with w | w
      · have := q5 c g w p2; omega
      · have := p5 c' g' w q2; omega
    have eg : g = g' := by
      have h1 := p2.2.1
      have h2 := q2.2.1
      rw [← ec, h1] at h2
      exact Int.ofNat.inj h2
    exact ⟨eb, fun x hx => by rw [p4 x hx, q4 x hx, eg]⟩
theorem rngY {N Z Y1 Y2 c : Nat} (hN : 0 < N) (h1 : rw3 N Z Y1 0 ≤ c) (h2 : c < rw3 N Z Y2 0) (h : Y2 ≤ N) : c / (N * N) = Z ∧ Y1 ≤ c / N % N ∧ c / N % N < Y2 := rng_z hN h1 h2 h
/-- no grain's middle has these rests -/
theorem no_scan {N c : Nat} (h : (c / N % N % 8 ≠ 1 ∧ c / N % N % 8 ≠ 2 ∧ c / N % N % 8 ≠ 4 ∧ c / N % N % 8 ≠ 6 ∧ c / N % N % 8 ≠ 7) ∨ (c / (N * N) % 8 ≠ 1 ∧ c / (N * N) % 8 ≠ 2 ∧ c / (N * N) % 8 ≠ 4 ∧ c / (N * N) % 8 ≠ 6 ∧ c / (N * N) % 8 ≠ 7)) : ¬ scV N c := fun w => by
  unfold scV at w
  obtain ⟨e1, e2, e3⟩ := rT_tyN ⟨c % N % 8, Nat.mod_lt _ (by decide)⟩ ⟨c / N % N % 8, Nat.mod_lt _ (by decide)⟩ ⟨c / (N * N) % 8, Nat.mod_lt _ (by decide)⟩ w
  obtain ⟨a1, a2⟩ := rs_all ⟨_, w⟩
  simp only at e2 e3 a1 a2
  rw [e2] at a1
  rw [e3] at a2
  omega
/-- a place in a row, and its grain -/
theorem sc_row {z y x t : Nat} (ht : t < 24) (hz : z < n) (hy : y < n) (hx : x < n) (hS : S (gI n x y z t) = true) : scI n S (rw3 (8 * n) (8 * z + rT t 2) (8 * y + rT t 1) (8 * x + rT t 0)) (gI n x y z t) := by
  have b0 := rT_lt ⟨t, ht⟩ 0
  have b1 := rT_lt ⟨t, ht⟩ 1
  have b2 := rT_lt ⟨t, ht⟩ 2
  simp only [Fin.val_zero, Fin.val_one, Fin.val_two] at b0 b1 b2
  have ty : tyN (rT t 0) (rT t 1) (rT t 2) = t := tyN_rT ⟨t, ht⟩
  have m8 : ∀ a r : Nat, r < 8 → (8 * a + r) % 8 = r ∧ (8 * a + r) / 8 = a := fun a r h => ⟨by omega, by omega⟩
  refine ⟨?_, ?_, gI_lt hx hy hz ht, hS⟩
  · rw [scV_at (by omega) (by omega) (by omega), (m8 x _ b0.2).1, (m8 y _ b1.2).1, (m8 z _ b2.2).1, ty]
    exact ht
  · unfold scG
    rw [dec_y (by omega), dec_z (by omega) (by omega), dec_t (by omega) (by omega)]
    rw [gAt_in (by omega) (by omega) (by omega), (m8 x _ b0.2).1, (m8 y _ b1.2).1, (m8 z _ b2.2).1, (m8 x _ b0.2).2, (m8 y _ b1.2).2, (m8 z _ b2.2).2, ty]
/-- what is at a place of a row -/
theorem sc_in {Z Y z y ra rb c g : Nat} {t1 t2 : Int} (r : RowT ra rb t1 t2) (eZ : Z = 8 * z + ra) (eY : Y = 8 * y + rb) (ha : ra < 8) (hb : rb < 8) (hz : z < n) (hy : y < n) (h1 : rw3 (8 * n) Z Y 0 ≤ c) (h2 : c < rw3 (8 * n) Z (Y + 1) 0) (i : scI n S c g) : ∃ x u, x < n ∧ u < 24 ∧ rT u 1 = rb ∧ rT u 2 = ra ∧ (t1 = (u : Int) ∨ t2 = (u : Int)) ∧ c = rw3 (8 * n) Z Y (8 * x + rT u 0) ∧ g = gI n x y z u := by
  have e3 : c = rw3 (8 * n) Z Y 0 + (c - rw3 (8 * n) Z Y 0) := by omega
  obtain ⟨X, eX⟩ : ∃ X, X = c - rw3 (8 * n) Z Y 0 := ⟨_, rfl⟩
  have e4 : c = rw3 (8 * n) Z Y X := by unfold rw3 at *; omega
  have hX : X < 8 * n := by
    have : rw3 (8 * n) Z (Y + 1) 0 = rw3 (8 * n) Z Y 0 + 8 * n := by unfold rw3; rw [← Nat.add_assoc, Nat.succ_mul]; omega
    omega
  obtain ⟨i1, i2, i3, i4⟩ := i
  have hY : Y < 8 * n := by omega
  have hZ : Z < 8 * n := by omega
  have ty := (scV_at hZ hY hX).mp (e4 ▸ i1)
  obtain ⟨a1, a2, a3⟩ := rT_tyN ⟨X % 8, Nat.mod_lt _ (by decide)⟩ ⟨Y % 8, Nat.mod_lt _ (by decide)⟩ ⟨Z % 8, Nat.mod_lt _ (by decide)⟩ ty
  simp only at a1 a2 a3
  have m1 : Y % 8 = rb ∧ Y / 8 = y := by omega
  have m2 : Z % 8 = ra ∧ Z / 8 = z := by omega
  refine ⟨X / 8, tyN (X % 8) (Y % 8) (Z % 8), by omega, ty, by rw [a2]; exact m1.1, by rw [a3]; exact m2.1, r.2.2.1 _ ty (by rw [a2]; exact m1.1) (by rw [a3]; exact m2.1), ?_, ?_⟩
  · rw [a1, e4]; congr 1; omega
  · rw [e4] at i2
    unfold scG at i2
    rw [dec_y hX, dec_z hY hX, dec_t hY hX, gAt_in hX hY hZ, m1.2, m2.2] at i2
    exact (Int.ofNat.inj i2).symm
end GRU
section LEFT
variable {gv : Nat → Int} {B n d se xe : Nat} {h : AH} {S Se : Nat → Bool}
/-- what is left of a row -/
def lfT (n : Nat) (R : Nat → Bool) (t : Int) (z y x : Nat) : Bool := decide (0 ≤ t) && R (gI n x y z t.toNat)
theorem left_is (hn : n ≤ 52) (e14 : hv h (B + 92) 14 = rf xe) (e2 : hv h (B + 81) 2 = rf se) (sx : SG n h xe S) (ss : SG n h se Se) {t1 : Int} (ht1 : t1 = -1 ∨ ∃ t : Nat, t < 24 ∧ t1 = (t : Int)) {z y : Nat} (hz : z < n) (hy : y < n) :
    q279 B n h t1 (z : Int) (y : Int) ∧ ∀ x, x < 64 → tb (v279 B n h t1 (z : Int) (y : Int)) x = (decide (x < n) && lfT n (fun g => S g && !Se g) t1 z y x) := by
  have hN := rows_le hn
  unfold q279 v279
  rw [ct3, ct3, e14, e2]
  rcases ht1 with rfl | ⟨t, ht, rfl⟩
  · rw [if_pos (by decide), if_pos (by decide)]
    refine ⟨trivial, fun x hx => ?_⟩
    rw [tb_0]
    unfold lfT
    rw [show decide ((0 : Int) ≤ -1) = false from rfl, Bool.false_and, Bool.and_false]
  · have r1 := rw3_lt ht hz hy
    rw [if_neg (by omega), if_neg (by omega), row_eq hn ht hz hy, ad_rf, ad_rf, sx.1, ss.1, tn]
    refine ⟨⟨⟨rf_pos _, rfl, by omega, by show _ < ((24 * n * n : Nat) : Int); omega⟩, rf_pos _, rfl, by omega, by show _ < ((24 * n * n : Nat) : Int); omega⟩, fun x hx => ?_⟩
    rw [tb_and, tb_not _ hx, sx.bit ht hz hy hx, ss.bit ht hz hy hx]
    unfold lfT
    rw [tn, decide_eq_true (Int.natCast_nonneg t), Bool.true_and]
    cases decide (x < n) <;> simp
end LEFT
