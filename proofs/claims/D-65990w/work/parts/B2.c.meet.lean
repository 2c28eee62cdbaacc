/-! L3: two places meet: the picture, the desk's meet -/
section MTS
variable {n wi wj : Nat} {A A' : Nat → Bool} {f : Nat → Int}
/-- A turned by one way has a grain in common with A' turned by another and moved by f -/
def MtS (n wi wj : Nat) (A A' : Nat → Bool) (f : Nat → Int) : Prop := ∃ g0 g1, g0 < gN n ∧ g1 < gN n ∧ A g0 = true ∧ A' g1 = true ∧ ∀ k, k < 3 → tu8 n wi g0 k = tu8 n wj g1 k + 8 * f k
theorem gAt_eq {x y z x' y' z' : Int} {g : Nat} (e : gAt n x y z = (g : Int)) (e' : gAt n x' y' z' = (g : Int)) (t : 0 ≤ x → 0 ≤ y → 0 ≤ z → tyN (x.toNat % 8) (y.toNat % 8) (z.toNat % 8) < 24) (t' : 0 ≤ x' → 0 ≤ y' → 0 ≤ z' → tyN (x'.toNat % 8) (y'.toNat % 8) (z'.toNat % 8) < 24) : x = x' ∧ y = y' ∧ z = z' := by
  unfold gAt at e e'
  split at e
  · omega
  split at e'
  · omega
  next h1 h2 =>
  have ty := t (by omega) (by omega) (by omega)
  have ty' := t' (by omega) (by omega) (by omega)
  have q := (Int.ofNat.inj e).trans (Int.ofNat.inj e').symm
  obtain ⟨q1, q2, q3, q4⟩ := (gI_inj (by omega) (by omega) ty (by omega) (by omega) ty').mp q
  have t1 := rT_tyN ⟨x.toNat % 8, by omega⟩ ⟨y.toNat % 8, by omega⟩ ⟨z.toNat % 8, by omega⟩ ty
  have t2 := rT_tyN ⟨x'.toNat % 8, by omega⟩ ⟨y'.toNat % 8, by omega⟩ ⟨z'.toNat % 8, by omega⟩ ty'
  simp only [q4] at t1
  have s1 := t1.1.symm.trans t2.1
  have s2 := t1.2.1.symm.trans t2.2.1
  have s3 := t1.2.2.symm.trans t2.2.2
  simp only at s1 s2 s3
  omega
theorem tuG_tot (hn : n ≤ 52) (hw : wi < 48) {g : Nat} (hg : g < gN n) : ∃ x : Nat, x < gN n ∧ tuG n wi g 0 0 0 = (x : Int) := by
  obtain ⟨X, Y, Z, hX, hY, hZ, eX, eY, eZ, ty⟩ := tu_nat hn hg hw
  rw [tuG_0 eX eY eZ, gAt_in hX hY hZ]
  exact ⟨_, gI_lt (by omega) (by omega) (by omega) ty, rfl⟩
/-- rows of two solids meet, one moved: said by grains -/
theorem mts_rows (hn : n ≤ 52) (hwi : wi < 48) (hwj : wj < 48) {R0 R1 : Nat → Bool} (t0 : TuR n wi A R0) (t1 : TuR n wj A' R1) : (∃ k x, k < 24 * n * n ∧ x < n ∧ (onK n (fun t z y x => R0 (gI n x y z t)) k x && onK n (mvd n (onK n (fun t z y x => R1 (gI n x y z t))) (f 0) (f 1) (f 2)) k x) = true) ↔ MtS n wi wj A A' f := by
  constructor
  · rintro ⟨k, x, hk, hx, e⟩
    obtain ⟨ht, hz, hy, _⟩ := rw3_dec (n := n) (by omega) hk
    rw [Bool.and_eq_true] at e
    have e0 : R0 (gI n x (k % n) (k / n % n) (k / (n * n))) = true := e.1
    have e1 : mvd n (onK n (fun t z y x => R1 (gI n x y z t))) (f 0) (f 1) (f 2) (k / (n * n)) (k / n % n) (k % n) x = true := e.2
    generalize k / (n * n) = t at ht e0 e1
    generalize k / n % n = z at hz e0 e1
    generalize k % n = y at hy e0 e1
    have hg := gI_lt hx hy hz ht
    have tm := turn_moved (dx := f 0) (dy := f 1) (dz := f 2) hn hwj t1 hg
    rw [gSo_I ht, gZ_I hx hy ht, gY_I hx hy ht, gX_I hx ht] at tm
    obtain ⟨g1, h1, a1, b1⟩ := tm.mp e1
    obtain ⟨g0, h0, a0, b0⟩ := (t0 _ hg).mp e0
    refine ⟨g0, g1, h0, h1, a0, a1, ?_⟩
    obtain ⟨q0, q1, q2⟩ := gAt_eq (show gAt n (tu8 n wi g0 0 + 8 * 0) (tu8 n wi g0 1 + 8 * 0) (tu8 n wi g0 2 + 8 * 0) = _ from b0) (show gAt n (tu8 n wj g1 0 + 8 * f 0) (tu8 n wj g1 1 + 8 * f 1) (tu8 n wj g1 2 + 8 * f 2) = _ from b1) (fun z1 z2 z3 => tu_ty hn h0 hwi 0 0 0 z1 z2 z3) (fun z1 z2 z3 => tu_ty hn h1 hwj (f 0) (f 1) (f 2) z1 z2 z3)
    intro k hk
    have c : k = 0 ∨ k = 1 ∨ k = 2 := by omega
    rcases c with rfl | rfl | rfl <;> omega
  · rintro ⟨g0, g1, h0, h1, a0, a1, e⟩
    obtain ⟨g, hg, b0⟩ := tuG_tot hn hwi h0
    have b1 : tuG n wj g1 (f 0) (f 1) (f 2) = (g : Int) := by
      rw [← b0]
      unfold tuG
      rw [e 0 (by decide), e 1 (by decide), e 2 (by decide)]
      simp
    obtain ⟨_, x1, x2, x3, x4⟩ := g_lt hg
    refine ⟨rw3 n (gSo g) (gZ n g) (gY n g), gX n g, rw3_lt x4 x3 x2, x1, ?_⟩
    rw [onK_at x3 x2, onK_at x3 x2, Bool.and_eq_true, gI_g]
    exact ⟨(t0 g hg).mpr ⟨g0, h0, a0, b0⟩, (turn_moved hn hwj t1 hg).mpr ⟨g1, h1, a1, b1⟩⟩
theorem MtS.congr {B B' : Nat → Bool} {f' : Nat → Int} (eA : ∀ g, g < gN n → A g = B g) (eB : ∀ g, g < gN n → A' g = B' g) (ef : ∀ k, k < 3 → f k = f' k) : MtS n wi wj A A' f ↔ MtS n wi wj B B' f' := by
  constructor
  · rintro ⟨g0, g1, h0, h1, a0, a1, e⟩
    exact ⟨g0, g1, h0, h1, by rw [← eA g0 h0]; exact a0, by rw [← eB g1 h1]; exact a1, fun k hk => by rw [← ef k hk]; exact e k hk⟩
  · rintro ⟨g0, g1, h0, h1, a0, a1, e⟩
    exact ⟨g0, g1, h0, h1, by rw [eA g0 h0]; exact a0, by rw [eB g1 h1]; exact a1, fun k hk => by rw [ef k hk]; exact e k hk⟩
/-- the other way round -/
theorem MtS.sym : MtS n wi wj A A' f ↔ MtS n wj wi A' A (fun k => -(f k)) := by
  constructor
  · rintro ⟨g0, g1, h0, h1, a0, a1, e⟩
    exact ⟨g1, g0, h1, h0, a1, a0, fun k hk => by have := e k hk; dsimp only; omega⟩
  · rintro ⟨g0, g1, h0, h1, a0, a1, e⟩
    exact ⟨g1, g0, h1, h0, a1, a0, fun k hk => by have := e k hk; dsimp only at this; omega⟩
end MTS
section MEET116
variable {gv : Nat → Int} {B n d : Nat} {h : AH} {i j ax wi wj s0 s1 : Nat} {A A' R0 R1 : Nat → Bool} {y : Int} {sh : Nat → Nat → Int}
theorem NoM.not {R K : Nat → Nat → Bool} (u : NoM n R K (24 * n * n)) : ¬ ∃ k x, k < 24 * n * n ∧ x < n ∧ (R k x && K k x) = true := by
  rintro ⟨k, x, hk, hx, e⟩
  rw [u k x hk hk hx] at e
  exact absurd e Bool.false_ne_true
theorem c_meet116 (l : LX B n h) (hd : 12 ≤ d) (hn0 : 0 < n) (hn : n ≤ 52) (hi : i < 12) (hj : j < 12) (e19 : hv h (B + 118) 19 = rf s0) (e20 : hv h (B + 118) 20 = rf s1) (z0 : SG n h s0 R0) (z1 : SG n h s1 R1) (t0 : TuR n wi A R0) (t1 : TuR n wj A' R1) (hwi : wi < 48) (hwj : wj < 48) (ei : ∀ b, b < 3 → hv h (B + 120) (3 * i + b) = sh b i ∧ -1000000 ≤ sh b i ∧ sh b i ≤ 1000000) (ej : ∀ b, b < 3 → hv h (B + 120) (3 * j + b) = sh b j ∧ -1000000 ≤ sh b j ∧ sh b j ≤ 1000000) (hy : -1000 ≤ y ∧ y ≤ 1000) :
    Vt 0 (cll PP (ev PP (gsF gv) B) d 116 [(2, rf (B + 118)), (0, (i : Int)), (0, (j : Int)), (0, (ax : Int)), (0, y)] h) (fun v h' => h' = h ∧ ((v = 1 ∧ MtS n wi wj A A' (fun k => sh k j - sh k i + if k = ax then y else 0)) ∨ (v = 0 ∧ ¬ MtS n wi wj A A' (fun k => sh k j - sh k i + if k = ax then y else 0)))) := by
  refine Vt.inq (D := 11) hd (Nat.le_of_ble_eq_true rfl) rfl (fun d hd Q K => ?_)
  have m3 : ∀ x : Nat, x < 12 → bop32 104 (3 : Int) (x : Int) = ((3 * x : Nat) : Int) := fun x hx => mulNN (x := 3) (by omega)
  have ix : ∀ x b : Nat, x < 12 → b < 3 → bop32 96 ((3 * x : Nat) : Int) (b : Int) = ((3 * x + b : Nat) : Int) := fun x b hx hb => addNN (by omega)
  obtain ⟨i0, i1, i2⟩ := ei 0 (by decide)
  obtain ⟨j0, j1, j2⟩ := ej 0 (by decide)
  obtain ⟨i3, i4, i5⟩ := ei 1 (by decide)
  obtain ⟨j3, j4, j5⟩ := ej 1 (by decide)
  obtain ⟨i6, i7, i8⟩ := ei 2 (by decide)
  obtain ⟨j6, j7, j8⟩ := ej 2 (by decide)
  have i0 : hv h (B + 120) (3 * i) = sh 0 i := i0
  have j0 : hv h (B + 120) (3 * j) = sh 0 j := j0
  have cy : ∀ b : Nat, cond (tst 1 (ax : Int) (b : Int)) (0 : Int) y = if b = ax then y else 0 := fun b => by
    by_cases e : b = ax
    · rw [if_pos e, tst1f (by omega)]; rfl
    · rw [if_neg e, tst1t (by omega)]; rfl
  have dd : ∀ b : Nat, (-1000000 ≤ sh b i ∧ sh b i ≤ 1000000) → (-1000000 ≤ sh b j ∧ sh b j ≤ 1000000) → bop32 96 (bop32 100 (sh b j) (sh b i)) (if b = ax then y else 0) = sh b j - sh b i + (if b = ax then y else 0) := fun b h1 h2 => by
    rw [sub32 (by omega) (by omega)]
    split
    · exact add32 (by omega) (by omega)
    · exact add32 (by omega) (by omega)
  have db : ∀ b : Nat, (-1000000 ≤ sh b i ∧ sh b i ≤ 1000000) → (-1000000 ≤ sh b j ∧ sh b j ≤ 1000000) → -10000000 ≤ sh b j - sh b i + (if b = ax then y else 0) ∧ sh b j - sh b i + (if b = ax then y else 0) ≤ 10000000 := fun b h1 h2 => by split <;> omega
  refine Ends.eq (b116_0 (n := n) (by (repeat' first | assumption | refine LX.setF _ _ ?_ (by decide +kernel) | refine LX.setS ?_ rfl | refine LX.setA ?_ (by first | assumption | omega))) (by first | assumption | omega)) ?_
  rw [m3 i hi, m3 j hj, show bop32 96 ((3 * j : Nat) : Int) 1 = ((3 * j + 1 : Nat) : Int) from ix j 1 hj (by decide), show bop32 96 ((3 * i : Nat) : Int) 1 = ((3 * i + 1 : Nat) : Int) from ix i 1 hi (by decide), show bop32 96 ((3 * j : Nat) : Int) 2 = ((3 * j + 2 : Nat) : Int) from ix j 2 hj (by decide), show bop32 96 ((3 * i : Nat) : Int) 2 = ((3 * i + 2 : Nat) : Int) from ix i 2 hi (by decide)]
  simp only [tn, e19, e20]
  rw [i0, j0, i3, j3, i6, j6]
  rw [show cond (tst 1 (ax : Int) 0) (0 : Int) y = _ from cy 0, show cond (tst 1 (ax : Int) 1) (0 : Int) y = _ from cy 1, show cond (tst 1 (ax : Int) 2) (0 : Int) y = _ from cy 2, dd 0 ⟨i1, i2⟩ ⟨j1, j2⟩, dd 1 ⟨i4, i5⟩ ⟨j4, j5⟩, dd 2 ⟨i7, i8⟩ ⟨j7, j8⟩]
  refine Ends.g ⟨by omega, by omega⟩ (Ends.g ⟨by omega, by omega⟩ (Ends.g ⟨by omega, by omega⟩ (Ends.g ⟨by omega, by omega⟩ (Ends.g ⟨by omega, by omega⟩ (Ends.g ⟨by omega, by omega⟩ ?_)))))
  refine Ends.ct l (by decide +kernel) (by decide) (c_meetMoved l (by omega) hn0 hn z0 z1 (db 0 ⟨i1, i2⟩ ⟨j1, j2⟩) (db 1 ⟨i4, i5⟩ ⟨j4, j5⟩) (db 2 ⟨i7, i8⟩ ⟨j7, j8⟩)) (fun v h1 l1 _ _ _ ⟨e1, evv⟩ => ?_)
  subst e1
  have mr := mts_rows (f := fun k => sh k j - sh k i + if k = ax then y else 0) hn hwi hwj t0 t1
  refine Ends.eq (b116_121 (n := n) (by (repeat' first | assumption | refine LX.setF _ _ ?_ (by decide +kernel) | refine LX.setS ?_ rfl | refine LX.setA ?_ (by first | assumption | omega))) (by first | assumption | omega)) ?_
  rcases evv with ⟨rfl, no⟩ | ⟨rfl, yes⟩
  · exact Ends.g (Or.inl rfl) (Ends.sm (K _ _ ⟨rfl, Or.inr ⟨rfl, fun z => no.not (mr.mpr z)⟩⟩))
  · exact Ends.g (Or.inr rfl) (Ends.sm (K _ _ ⟨rfl, Or.inl ⟨rfl, mr.mp yes⟩⟩))
end MEET116
