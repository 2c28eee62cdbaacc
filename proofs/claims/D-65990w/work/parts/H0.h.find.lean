/-! L3: faces (desk): all faces -/
noncomputable section FFD
variable {gv : Nat → Int} {B n d a z y ra rb : Nat} {h q : AH} {E S : Nat → Bool} {ed : Nat → Nat} {w t1 t2 : Int} {Ww : Nat → Nat → Prop} {WF : Nat → (Nat → Nat) → AH → Prop} {WI : Nat → (Nat → Nat) → Nat → (Nat → Bool) → AH → Prop} {T : Nat}
theorem scV_rk {g : Nat} (hg : g < gN n) : scV (8 * n) (rkS n g) := by
  obtain ⟨-, g1, g2, g3, g4⟩ := g_lt hg
  have := (sc_row (S := fun _ => true) (z := gZ n g) (y := gY n g) (x := gX n g) (t := gSo g) g4 g3 g2 g1 rfl).1
  exact this
theorem FnE.skip0 {P P' : Nat} (i : FnE B n h E ed w Ww WF T q (4 * P)) (hp : P ≤ P') (no : ∀ c, P ≤ c → c < P' → ¬ scV (8 * n) c) : FnE B n h E ed w Ww WF T q (4 * P') := i.skip (by omega) (fun V _ k hk _ h1 h2 => by
  unfold fpo at h1 h2
  exact absurd (scV_rk (K4_lt hk)) (no _ (by omega) (by omega)))
/-- grains of a row -/
theorem row_g {X1 X2 g : Nat} (r : RowT ra rb t1 t2) (ha : ra < 8) (hb : rb < 8) (hz : z < n) (hy : y < n) (hg : g < gN n) (h1 : rw3 (8 * n) (8 * z + ra) (8 * y + rb) X1 ≤ rkS n g) (h2 : rkS n g < rw3 (8 * n) (8 * z + ra) (8 * y + rb) X2) (hX : X2 ≤ 8 * n) : ∃ x u, x < n ∧ u < 24 ∧ rT u 1 = rb ∧ rT u 2 = ra ∧ (t1 = (u : Int) ∨ t2 = (u : Int)) ∧ g = gI n x y z u ∧ X1 ≤ 8 * x + rT u 0 ∧ 8 * x + rT u 0 < X2 := by
  obtain ⟨-, g1, g2, g3, g4⟩ := g_lt hg
  have r0 := rT_lt ⟨gSo g, g4⟩ 0
  have r1 := rT_lt ⟨gSo g, g4⟩ 1
  have r2 := rT_lt ⟨gSo g, g4⟩ 2
  simp only [Fin.val_zero, Fin.val_one, Fin.val_two] at r0 r1 r2
  obtain ⟨q1, q2, q3, q4⟩ := rng_y (n := 8 * n) (by omega) h1 h2 hX
  have b0 := (g8_lt hg 0).2
  have b1 := (g8_lt hg 1).2
  unfold rkS at q1 q2 q3 q4
  rw [dec_t b1 b0] at q1
  rw [dec_z b1 b0] at q2
  rw [dec_y b0] at q3 q4
  simp only [g8] at q1 q2 q3 q4
  refine ⟨gX n g, gSo g, g1, g4, by omega, by omega, r.2.2.1 _ g4 (by omega) (by omega), ?_, q3, q4⟩
  rw [show y = gY n g by omega, show z = gZ n g by omega, gI_g]
def anE (E' : Nat → Bool) (g : Nat) : Bool := E' (4 * g + 0) || (E' (4 * g + 1) || (E' (4 * g + 2) || E' (4 * g + 3)))
theorem anE_f {E' : Nat → Bool} {g f : Nat} (e : anE E' g = false) (hf : f < 4) : E' (4 * g + f) = false := by
  unfold anE at e
  rw [Bool.or_eq_false_iff, Bool.or_eq_false_iff, Bool.or_eq_false_iff] at e
  rcases (by omega : f = 0 ∨ f = 1 ∨ f = 2 ∨ f = 3) with rfl | rfl | rfl | rfl
  · exact e.1
  · exact e.2.1
  · exact e.2.2.1
  · exact e.2.2.2
theorem edges_is {E' : Nat → Bool} (hn : n ≤ 52) (F : FcE B n q ed E') (ht1 : t1 = -1 ∨ ∃ t : Nat, t < 24 ∧ t1 = (t : Int)) (hz : z < n) (hy : y < n) :
    q160 B n q t1 (z : Int) (y : Int) ∧ ∀ x, x < 64 → tb (v160 B n q t1 (z : Int) (y : Int)) x = (decide (x < n) && (decide (0 ≤ t1) && anE E' (gI n x y z t1.toNat))) := by
  have hN := rows_le hn
  unfold q160 v160
  rw [ct3, ct3]
  rcases ht1 with rfl | ⟨t, ht, rfl⟩
  · rw [if_pos (by decide), if_pos (by decide)]
    refine ⟨trivial, fun x hx => ?_⟩
    rw [tb_0, show decide ((0 : Int) ≤ -1) = false from rfl, Bool.false_and, Bool.and_false]
  · have r1 := rw3_lt ht hz hy
    obtain ⟨a1, -, -, a4⟩ := F.1 0 (by decide)
    obtain ⟨b1, -, -, b4⟩ := F.1 1 (by decide)
    obtain ⟨c1, -, -, c4⟩ := F.1 2 (by decide)
    obtain ⟨d1, -, -, d4⟩ := F.1 3 (by decide)
    rw [if_neg (by omega), if_neg (by omega), row_eq hn ht hz hy, show Int.toNat 0 = 0 from rfl, show Int.toNat 1 = 1 from rfl, show Int.toNat 2 = 2 from rfl, show Int.toNat 3 = 3 from rfl, a1, b1, c1, d1, ad_rf, ad_rf, ad_rf, ad_rf, a4.1, b4.1, c4.1, d4.1, tn]
    have ok : ∀ e, 0 < rf e ∧ ((3, 24 * n * n) : Nat × Nat).1 = 1 + 2 ∧ (0 : Int) ≤ ((rw3 n t z y : Nat) : Int) ∧ ((rw3 n t z y : Nat) : Int) < (((3, 24 * n * n) : Nat × Nat).2 : Int) := fun e => ⟨rf_pos _, rfl, by omega, by show _ < ((24 * n * n : Nat) : Int); omega⟩
    refine ⟨⟨ok _, ok _, ok _, ok _⟩, fun x hx => ?_⟩
    rw [tb_or, tb_or, tb_or, a4.bit ht hz hy hx, b4.bit ht hz hy hx, c4.bit ht hz hy hx, d4.bit ht hz hy hx, decide_eq_true (Int.natCast_nonneg t), Bool.true_and, tn]
    unfold anE
    cases decide (x < n) <;> simp [Bool.or_assoc]
theorem FnE.lx {p : Nat} (i : FnE B n h E ed w Ww WF T q p) : LX B n q := by
  obtain ⟨m, F, V, pc, cap, ka, kc, i1, -⟩ := i
  exact i1.1
theorem rkS_at {x u : Nat} (hx : x < n) (hy : y < n) (hu : u < 24) (h1 : rT u 1 = rb) (h2 : rT u 2 = ra) : rkS n (gI n x y z u) = rw3 (8 * n) (8 * z + ra) (8 * y + rb) (8 * x + rT u 0) := by
  unfold rkS
  obtain ⟨e0, e1, e2⟩ := g8_I (n := n) (z := z) hx hy hu
  rw [e0, e1, e2, h1, h2]
set_option maxHeartbeats 2000000 in
theorem c_pair167 (hd : 28 ≤ d) (hn : n ≤ 52) (r : RowT ra rb t1 t2) (ho : t1 = -1 → t2 = -1) (ha : ra < 8) (hb : rb < 8) (hz : z < n) (hy : y < n) (ok : WOk gv B n h E ed w Ww WF WI) (i : FnE B n h E ed w Ww WF T q (4 * rw3 (8 * n) (8 * z + ra) (8 * y + rb) 0)) :
    Vd (cll PP (ev PP (gsF gv) B) d 167 [(2, rf (B + 82)), (0, t1), (0, t2), (0, (z : Int)), (0, (y : Int))] q) (fun q' => FnE B n h E ed w Ww WF T q' (4 * rw3 (8 * n) (8 * z + ra) (8 * y + rb) (8 * n))) := by
  have ok1 : t1 = -1 ∨ ∃ t : Nat, t < 24 ∧ t1 = (t : Int) := r.1.imp id (fun ⟨t, a, b, _⟩ => ⟨t, a, b⟩)
  have ok2 : t2 = -1 ∨ ∃ t : Nat, t < 24 ∧ t2 = (t : Int) := r.2.1.imp id (fun ⟨t, a, b, _⟩ => ⟨t, a, b⟩)
  obtain ⟨Z, eZ⟩ : ∃ Z, Z = 8 * z + ra := ⟨_, rfl⟩
  obtain ⟨Y, eY⟩ : ∃ Y, Y = 8 * y + rb := ⟨_, rfl⟩
  have rg := fun {X1 X2 g : Nat} => row_g (n := n) (X1 := X1) (X2 := X2) (g := g) r ha hb hz hy
  have rka := fun {x u : Nat} (hx : x < n) (hu : u < 24) (h1 : rT u 1 = rb) (h2 : rT u 2 = ra) => rkS_at (n := n) (z := z) (y := y) (rb := rb) (ra := ra) hx hy hu h1 h2
  rw [← eZ, ← eY] at i rg rka
  rw [← eZ, ← eY]
  have lx : ∀ X1 X2, X1 ≤ X2 → rw3 (8 * n) Z Y X1 ≤ rw3 (8 * n) Z Y X2 := fun X1 X2 h => by unfold rw3; omega
  refine Vd.inq (D := 27) hd (Nat.le_of_ble_eq_true rfl) rfl (fun d hd Q K => ?_)
  -- what there is at the start
  have i0 := i
  obtain ⟨m, F, V, pc, cap, ka, kc, ⟨lq, X, -⟩, ⟨Fq, -⟩, ⟨-, Sn, -⟩, -⟩ := i
  obtain ⟨k1, b1⟩ := edges_is hn Fq ok1 hz hy
  obtain ⟨k2, b2⟩ := edges_is hn Fq ok2 hz hy
  obtain ⟨w0, ew0⟩ : ∃ w0, w0 = bop64 129 (v160 B n q t1 (z : Int) (y : Int)) (v160 B n q t2 (z : Int) (y : Int)) := ⟨_, rfl⟩
  have c0 : cn 1 w0 := by rw [ew0]; exact cn_bop64
  have bl : ∀ x, x < 64 → tb w0 x = (decide (x < n) && ((decide (0 ≤ t1) && anE (fun k => E k && !V k) (gI n x y z t1.toNat)) || (decide (0 ≤ t2) && anE (fun k => E k && !V k) (gI n x y z t2.toNat)))) := fun x hx => by
    rw [ew0, tb_or, b1 x hx, b2 x hx]; cases decide (x < n) <;> simp
  have no0 : ∀ x u, x < n → tb w0 x = false → (t1 = ((u : Nat) : Int) ∨ t2 = (u : Int)) → u < 24 → ∀ k, k < 4 * gN n → k / 4 = gI n x y z u → E k = true → ∃ x', x' < 4 * gN n ∧ FRe n E k x' ∧ fpo n x' < 4 * rw3 (8 * n) Z Y 0 := fun x u hx e hu hu24 k hk k4 hE => by
    rw [bl x (by omega), decide_eq_true hx, Bool.true_and, Bool.or_eq_false_iff] at e
    have : anE (fun k => E k && !V k) (gI n x y z u) = false := by
      rcases hu with hu | hu
      · have := e.1
        rw [hu, tn, decide_eq_true (Int.natCast_nonneg u), Bool.true_and] at this
        exact this
      · have := e.2
        rw [hu, tn, decide_eq_true (Int.natCast_nonneg u), Bool.true_and] at this
        exact this
    have := anE_f this (Nat.mod_lt k (by decide : 0 < 4))
    rw [← k4, show 4 * (k / 4) + k % 4 = k by omega, hE, Bool.true_and, Bool.not_eq_false'] at this
    exact ((Sn k hk).mp this).2
  have skipR : ∀ {q : AH} {X1 X2 : Nat}, X1 ≤ X2 → X2 ≤ 8 * n → (∀ x u, x < n → u < 24 → (t1 = ((u : Nat) : Int) ∨ t2 = (u : Int)) → X1 ≤ 8 * x + rT u 0 → 8 * x + rT u 0 < X2 → tb w0 x = false) → FnE B n h E ed w Ww WF T q (4 * rw3 (8 * n) Z Y X1) → FnE B n h E ed w Ww WF T q (4 * rw3 (8 * n) Z Y X2) := fun {q X1 X2} h1 h2 no i => i.skip (by have := lx _ _ h1; omega) (fun V' _ k hk hE p1 p2 => by
    unfold fpo at p1 p2
    obtain ⟨x, u, q1, q2, q3, q4, q5, q6, q7, q8⟩ := rg (g := k / 4) (K4_lt hk) (X1 := X1) (X2 := X2) (by omega) (by omega) h2
    obtain ⟨x', y1, y2, y3⟩ := no0 x u q1 (no x u q1 q2 q5 q7 q8) q5 q2 k hk q6 hE
    have := lx _ _ (Nat.zero_le X1)
    exact ⟨x', y1, y2, by omega⟩)
  have skipN : ∀ {q : AH} {X1 X2 : Nat}, X1 ≤ X2 → X2 ≤ 8 * n → (∀ x u, x < n → u < 24 → (t1 = ((u : Nat) : Int) ∨ t2 = (u : Int)) → X1 ≤ 8 * x + rT u 0 → 8 * x + rT u 0 < X2 → False) → FnE B n h E ed w Ww WF T q (4 * rw3 (8 * n) Z Y X1) → FnE B n h E ed w Ww WF T q (4 * rw3 (8 * n) Z Y X2) := fun h1 h2 no i => skipR h1 h2 (fun x u a b c e f => (no x u a b c e f).elim) i
  have uni : ∀ u : Nat, u < 24 → 1 ≤ rT u 0 ∧ rT u 0 < 8 := fun u hu => rT_lt ⟨u, hu⟩ 0
  have main : ∀ (M X : Nat) (q : AH) (wd : Int) (u7 : AV), n - X = M → X ≤ n → cn 1 wd → (∀ x, x < 64 → x < X → tb wd x = false) → (∀ x, x < 64 → X ≤ x → tb wd x = tb w0 x) → FnE B n h E ed w Ww WF T q (4 * rw3 (8 * n) Z Y (8 * X)) → Ends (ev PP (gsF gv) B d 167 19 [(2, rf (B + 82)), (0, t1), (0, t2), (0, (z : Int)), (0, (y : Int)), (1, wd), (9, 0), u7] [] q) Q := by
    intro M
    refine Nat.strongRecOn M (fun M ihM => ?_)
    intro X q wd u7 eM hX cw lo hi i
    refine Ends.eq (b167_19 i.lx (by omega)) (Ends.b0 (fun z0 => ?_) (fun z0 => ?_))
    · rw [cmp64_z] at z0
      refine Ends.sm (K _ (skipR (by omega) (Nat.le_refl _) (fun x u q1 q2 q3 q4 q5 => ?_) i))
      have := uni u q2
      rw [← hi x (by omega) (by omega), z0, tb_0]
    · obtain ⟨x, lk⟩ := Low.ex cw (fun e => z0 (cmp64_z.mpr e))
      have hx64 := lk.1
      have hbx := lk.2.1
      have hXx : X ≤ x := by
        apply Classical.byContradiction
        intro y
        rw [lo x hx64 (by omega)] at hbx
        exact absurd hbx (by decide)
      have hw0 : tb w0 x = true := by rw [← hi x hx64 hXx]; exact hbx
      have hxn : x < n := by
        rw [bl x hx64, Bool.and_eq_true, decide_eq_true_eq] at hw0; exact hw0.1
      refine Ends.ct i.lx (by decide +kernel) (by decide) (c_ntz i.lx (by omega) lk) (fun y0 h2 l2 _ _ _ ⟨e2, e3⟩ => ?_)
      subst e2 e3
      refine Ends.eq (b167_31 (by decide) l2 (by omega)) ?_
      -- the first sort
      have ht1 : ∃ u : Nat, u < 24 ∧ t1 = (u : Int) ∧ rT u 1 = rb ∧ rT u 2 = ra := by
        rcases r.1 with y | y
        · have := ho y
          rw [bl x hx64, y, this] at hw0
          simp at hw0
        · exact y
      obtain ⟨u, hu, eu, u1, u2⟩ := ht1
      have ub := uni u hu
      have i1 := skipR (X1 := 8 * X) (X2 := 8 * x) (by omega) (by omega) (fun x' u' q1 q2 q3 q4 q5 => by
        have := uni u' q2
        rw [← hi x' (by omega) (by omega)]
        exact lk.2.2 x' (by omega)) i
      have i2 := skipN (X1 := 8 * x) (X2 := 8 * x + rT u 0) (by omega) (by omega) (fun x' u' q1 q2 q3 q4 q5 => by
        have := uni u' q2
        have ex : x' = x := by omega
        rcases q3 with y | y
        · have : u' = u := by rw [eu] at y; omega
          rw [this] at q5; omega
        · have := r.2.2.2 u u' hu q2 eu y
          omega) i1
      rw [← rka hxn hu u1 u2] at i2
      have w1 : ∀ x', x' < 64 → x' < x + 1 → tb (bop64 127 wd (bop64 101 wd 1)) x' = false := fun x' h1 h2 => by
        rw [lk.less]
        by_cases e : x' = x
        · rw [e]; simp
        · rw [lk.2.2 x' (by omega), Bool.and_false]
      have w2 : ∀ x', x' < 64 → x + 1 ≤ x' → tb (bop64 127 wd (bop64 101 wd 1)) x' = tb w0 x' := fun x' h1 h2 => by
        rw [lk.less, hi x' h1 (by omega), decide_eq_true (by omega), Bool.true_and]
      have nextX : ∀ q3 : AH, FnE B n h E ed w Ww WF T q3 (4 * rw3 (8 * n) Z Y (8 * (x + 1))) → Ends (ev PP (gsF gv) B d 167 66 [(2, rf (B + 82)), (0, t1), (0, t2), (0, (z : Int)), (0, (y : Int)), (1, bop64 127 wd (bop64 101 wd 1)), (9, 0), (0, (x : Int))] [] q3) Q := fun q3 i3 => by
        refine Ends.eq (b167_66 i3.lx (by omega)) ?_
        exact ihM (n - (x + 1)) (by omega) (x + 1) q3 _ _ rfl (by omega) cn_bop64 w1 w2 i3
      rw [eu]
      refine Ends.cv l2 (by decide +kernel) (c_grain163 (by omega) hn hxn hy hz hu ok i2) (fun q3 l3 _ _ _ i3 => ?_)
      rw [rka hxn hu u1 u2, show 4 * rw3 (8 * n) Z Y (8 * x + rT u 0) + 4 = 4 * rw3 (8 * n) Z Y (8 * x + rT u 0 + 1) from by unfold rw3; omega] at i3
      rw [← eu]
      refine Ends.eq (b167_52 l3 (by omega)) (Ends.b2 (fun zt => ?_) (fun zt => ?_))
      · refine nextX q3 (skipN (by omega) (by omega) (fun x' u' q1 q2 q3 q4 q5 => ?_) i3)
        have := uni u' q2
        have ex : x' = x := by omega
        rcases q3 with y | y
        · have : u' = u := by rw [eu] at y; omega
          rw [this] at q4; omega
        · omega
      · obtain ⟨v, hv', ev', v1, v2⟩ : ∃ v : Nat, v < 24 ∧ t2 = (v : Int) ∧ rT v 1 = rb ∧ rT v 2 = ra := by
          rcases r.2.1 with y | y
          · omega
          · exact y
        have vb := uni v hv'
        have uv := r.2.2.2 u v hu hv' eu ev'
        have i4 := skipN (X1 := 8 * x + rT u 0 + 1) (X2 := 8 * x + rT v 0) (by omega) (by omega) (fun x' u' q1 q2 q3 q4 q5 => by
          have := uni u' q2
          have ex : x' = x := by omega
          rcases q3 with y | y
          · have : u' = u := by rw [eu] at y; omega
            rw [this] at q4; omega
          · have : u' = v := by rw [ev'] at y; omega
            rw [this] at q5; omega) i3
        rw [← rka hxn hv' v1 v2] at i4
        rw [ev']
        refine Ends.cv l3 (by decide +kernel) (c_grain163 (by omega) hn hxn hy hz hv' ok i4) (fun q5 l5 _ _ _ i5 => ?_)
        rw [rka hxn hv' v1 v2, show 4 * rw3 (8 * n) Z Y (8 * x + rT v 0) + 4 = 4 * rw3 (8 * n) Z Y (8 * x + rT v 0 + 1) from by unfold rw3; omega] at i5
        rw [← ev']
        refine nextX q5 (skipN (by omega) (by omega) (fun x' u' q1 q2 q3 q4 q5 => ?_) i5)
        have := uni u' q2
        have ex : x' = x := by omega
        rcases q3 with y | y
        · have : u' = u := by rw [eu] at y; omega
          rw [this] at q4; omega
        · have : u' = v := by rw [ev'] at y; omega
          rw [this] at q4; omega
  refine Ends.eq (b167_0 lq (by omega)) (Ends.g k1 (Ends.g k2 ?_))
  rw [← ew0]
  exact main (n - 0) 0 q w0 _ rfl (Nat.zero_le _) c0 (fun x _ hx => absurd hx (Nat.not_lt_zero _)) (fun x _ _ => rfl) i0
theorem so_order0 : ∀ a b : Fin 5, soT a b 0 = -1 → soT a b 1 = -1 := by decide +kernel
/-- what stands between the calls of Faces -/
def FaI (B : Nat) (h : AH) (pc cap : Nat) (ka : Nat → Nat) (kc : Nat) : Prop := PlS B h pc cap 0 ∧ KpA B h ka kc ∧ ∀ j, j < 6 → ka j ≠ pc
set_option maxHeartbeats 2000000 in
theorem c_find162 {pc cap kc : Nat} {ka : Nat → Nat} (l : LX B n h) (hd : 32 ≤ d) (hn4 : 4 ≤ n) (hn : n ≤ 52) (m : TbC B h) (u : BsU B h) (so : SoC B h) (R : Reg B n h) (s : SG n h a S) (ha : a < hnx h) (hB : B + 83 < a) (hne : ∀ f, f < 4 → hv h (B + 83) f ≠ rf a) (A : FaI B h pc cap ka kc) (ok : WOk0 gv B n h (bdr n S) w Ww WF WI) (wf : WF 0 (fun _ => 0) h) :
    Vd (cll PP (ev PP (gsF gv) B) d 162 [(2, rf (B + 82)), (2, (rf a)), (2, w)] h) (fun h' => ∃ mm F pc' cap' ka' kc', (FaI B h' pc' cap' ka' kc' ∧ (hnx h ≤ pc' ∨ hv h (B + 82) 3 = rf pc') ∧ ∀ j, j < 6 → hnx h ≤ ka' j ∨ hv h (B + 82) (7 + j) = rf (ka' j)) ∧ FcL n (bdr n S) (4 * rw3 (8 * n) (8 * n) 0 0) mm F ∧ hv h' (B + 82) 5 = (mm : Int) ∧ hv h' (B + 82) 6 = ((min mm 4096 : Nat) : Int) ∧ min mm 4096 ≤ kc' ∧ FaK n h' (bdr n S) ka' mm F ∧ hv h' (B + 36) 17 = 1 ∧ BsC B h' ∧ Reg B n h' ∧ hus h' + lzy B n h' + (32768 - 2 * cap') + 6 * (8192 - 2 * kc') = hus h + lzy B n h + (32768 - 2 * cap) + 6 * (8192 - 2 * kc) ∧ cel h h' ∧ ExG (fun c k => FdW B h c k ∨ Ww c k) h h' ∧ WF mm F h') := by
  have hb := l.2.2
  have hn0 : 0 < n := by omega
  obtain ⟨P, Ka, kp⟩ := A
  refine Vd.inq (D := 31) hd (Nat.le_of_ble_eq_true rfl) rfl (fun d hd Q K => ?_)
  refine Ends.eq (b162_0 l (by omega)) ?_
  refine Ends.cv l (by decide +kernel) (c_begin158 l (by omega) hn4 hn R m u s ha hB hne) (fun h1 l1 _ _ _ ⟨⟨ed, F1, eo⟩, e17, bs, R1, u1, ce1, X1⟩ => ?_)
  refine Ends.eq (b162_5 l1 (by omega)) ?_
  have bF : ∀ c k, bgW B h c k → FdW B h c k := fun c k z => by
    rcases z with z | z | z
    · exact Or.inr (Or.inl z)
    · exact Or.inr (Or.inr (Or.inl z.1))
    · exact Or.inr (Or.inr (Or.inr (Or.inl z)))
  obtain ⟨p1, p2, p3, p4, p5, p6, p7⟩ := P
  have edo : ∀ c f, f < 4 → hv h (B + 83) f = rf c → (hk h c = (3, 24 * n * n) ∧ B + 246 ≤ c) := fun c f hf e => by
    rcases R.1 (33 + f) (by omega) with y | ⟨e', y1, y2, y3, y4⟩
    · rw [rgV_e hf, e] at y; have := rf_pos c; omega
    · rw [rgV_e hf, e] at y1
      have : c = e' := by unfold rf at y1; omega
      rw [this]; exact ⟨y4, y2⟩
  have nbg : ∀ c k, bgW B h c k → c ≠ B + 82 ∧ (∀ mm, hk h c ≠ (2, mm)) ∨ (B + 36 ≤ c ∧ c ≤ B + 50) ∨ c = B + 83 := fun c k z => by
    rcases z with z | z | ⟨f, hf, z⟩
    · right; left; unfold nbW at z; omega
    · right; right; exact z.1
    · obtain ⟨z1, z2⟩ := edo c f hf z
      left
      exact ⟨by omega, fun mm e => by rw [z1] at e; exact absurd (show (3 : Nat) = 2 from congrArg Prod.fst e) (by decide)⟩
  have f82 : ∀ k, hv h1 (B + 82) k = hv h (B + 82) k := fun k => X1.at k (by omega) (fun z => by rcases nbg _ _ z with y | y | y; exact y.1 rfl; omega; omega)
  have kpk : ∀ j k, j < 6 → hv h1 (ka j) k = hv h (ka j) k := fun j k hj => by
    obtain ⟨-, a2, a3, a4⟩ := Ka.1 j hj
    exact X1.at k a4 (fun z => by rcases nbg _ _ z with y | y | y; exact y.2 _ a2; omega; omega)
  have G2 : Agr (fun c k => c = B + 82 ∧ (k = 5 ∨ k = 6 ∨ k = 16)) h1 (hset (hset (hset h1 (B + 82) 5 0) (B + 82) 6 0) (B + 82) 16 w) := ((Agr.rf.set (by omega)).set (by omega)).set (by omega)
  have l2 : LX B n (hset (hset (hset h1 (B + 82) 5 0) (B + 82) 6 0) (B + 82) 16 w) := LX.setF 82 16 (LX.setF 82 6 (LX.setF 82 5 l1 (by decide +kernel)) (by decide +kernel)) (by decide +kernel)
  have v5 : hv (hset (hset (hset h1 (B + 82) 5 0) (B + 82) 6 0) (B + 82) 16 w) (B + 82) 5 = 0 := by rw [hv_set_ne (by omega), hv_set_ne (by omega), hv_set_at]
  have v6 : hv (hset (hset (hset h1 (B + 82) 5 0) (B + 82) 6 0) (B + 82) 16 w) (B + 82) 6 = 0 := by rw [hv_set_ne (by omega), hv_set_at]
  have v16 : hv (hset (hset (hset h1 (B + 82) 5 0) (B + 82) 6 0) (B + 82) 16 w) (B + 82) 16 = w := hv_set_at ..
  generalize hset (hset (hset h1 (B + 82) 5 0) (B + 82) 6 0) (B + 82) 16 w = h2 at *
  have hb1 := l1.2.2
  have X2 : ExG (fun c k => FdW B h c k ∨ Ww c k) h h2 := (X1.exg.sub (fun c k _ z => Or.inl (bF c k z))).tr G2.ext.exg (fun c k _ z => Or.inl (Or.inl z.1))
  have X12 : ExG (FdW B h) h h2 := (X1.exg.sub (fun c k _ z => bF c k z)).tr G2.ext.exg (fun c k _ z => Or.inl z.1)
  obtain ⟨R2, L2⟩ := R1.ext hb1 G2.ext (fun i hi z => by have := rgi hi; omega)
  have ok' : WOk gv B n h (bdr n S) ed w Ww WF WI := ⟨ok, eo, hb⟩
  have wf2 : WF 0 (fun _ => 0) h2 := ok.2.2.2.2.1 0 _ h h2 wf (fun c k hc z => X12.at k hc z) (fun c hc => X12.hk hc)
  obtain ⟨T, eT⟩ : ∃ T, T = hus h + lzy B n h + (32768 - 2 * cap) + 6 * (8192 - 2 * kc) := ⟨_, rfl⟩
  have mm2 : TbC B h2 := (m.ext hb X1 (fun c k h1 h2 z => by rcases z with z | z | ⟨f, hf, z⟩; unfold nbW at z; omega; omega; have := (edo c f hf z).2; omega)).ext hb1 G2.ext (fun c k h1 h2 z => by omega)
  have n1 := X1.2.2.1
  have ini : FnE B n h (bdr n S) ed w Ww WF T h2 (4 * rw3 (8 * n) 0 0 0) := by
    have z0 : rw3 (8 * n) 0 0 0 = 0 := by unfold rw3; simp
    rw [z0]
    refine ⟨0, fun _ => 0, fun _ => false, pc, cap, ka, kc, ⟨l2, X2, mm2, fun k s' hk hs => ?_, by rw [G2.at _ _ (by omega)]; exact e17, R2⟩, ⟨(F1.exg hb1 G2.ext.exg (fun f hf z => by omega) (fun f k hf z => by have := (F1.1 f hf).2.1; omega)).congr (fun k _ => by simp), ⟨?_, ?_, ?_, p4, ?_, Nat.zero_le _, p7⟩, Or.inr p1, ⟨fun j hj => ?_, Ka.2⟩, fun j hj => ⟨Or.inr (Ka.1 j hj).1, kp j hj⟩⟩, ⟨FcL.ini, Fsn.ini (fun _ _ => rfl), v5, v6, Nat.zero_le _, fun i hi => by omega⟩, v16, ?_, ce1.tr (cel.agr G2), wf2⟩
    · have := bs k s' hk hs
      exact ⟨by rw [G2.at _ _ (by omega)]; exact this.1, fun a ha => by rw [G2.at _ _ (by omega)]; exact this.2 a ha⟩
    · rw [G2.at _ _ (by omega), f82]; exact p1
    · rw [G2.at _ _ (by omega), f82]; exact p2
    · rw [G2.hk, X1.hk p5]; exact p3
    · rw [G2.nx]; omega
    · obtain ⟨a1, a2, a3, a4⟩ := Ka.1 j hj
      exact ⟨by rw [G2.at _ _ (by omega), f82]; exact a1, by rw [G2.hk, X1.hk a4]; exact a2, a3, by rw [G2.nx]; omega⟩
    · rw [G2.us, L2, u1, eT]
  obtain ⟨N, eN⟩ : ∃ N, N = 8 * n := ⟨_, rfl⟩
  have hN0 : 0 < N := by omega
  have so2 : ∀ {q : AH} {p : Nat}, FnE B n h (bdr n S) ed w Ww WF T q p → ∀ a b m, a < 5 → b < 5 → m < 2 → hv q (B + 91) (10 * a + 2 * b + m) = soT a b m := fun {q p} i a b m z1 z2 z3 => by
    obtain ⟨m', F, V, pc', cap', ka', kc', ⟨lq, X, -⟩, -⟩ := i
    rw [X.at _ (by omega) (fun z => ?_)]
    · exact so a b m z1 z2 z3
    · rcases z with (z | z | z | ⟨f, hf, z⟩ | z | ⟨j, hj, z⟩) | z
      · omega
      · unfold nbW at z; omega
      · omega
      · have := (edo _ f hf z).2; omega
      · rw [p1] at z; unfold rf at z; omega
      · obtain ⟨a1, -, a3, -⟩ := Ka.1 j hj
        rw [a1] at z; unfold rf at z; omega
      · exact (ok.2.2.2.2.2 _ _ z).2.2.2.2 rfl
  have fin : ∀ (q : AH) (u3 u4 u5 u6 : AV), FnE B n h (bdr n S) ed w Ww WF T q (4 * rw3 N N 0 0) → Ends (ev PP (gsF gv) B d 162 22 [(2, rf (B + 82)), (2, rf a), (2, w), (0, (n : Int)), u4, u5, u6] [] q) Q := by
    intro q u3 u4 u5 u6 i
    have lq := i.lx
    obtain ⟨m', F, V, pc', cap', ka', kc', ⟨-, X, -, bq, q17, Rq⟩, ⟨-, Pq, pO, Kq, kO⟩, ⟨L, -, q5, q6, mk, ct⟩, -, rm, ce, wfq⟩ := i
    rw [eN] at L
    refine Ends.eq (b162_22 lq (by omega)) (Ends.b3 (fun _ => Ends.sm (K _ ⟨m', F, pc', cap', ka', kc', ⟨⟨Pq, Kq, fun j hj => (kO j hj).2⟩, pO, fun j hj => (kO j hj).1⟩, L, q5, q6, mk, ct, q17, bq, Rq, by rw [rm, eT], ce, X, wfq⟩)) (fun w => absurd w (by omega)))
  have lb : ∀ (z a' y : Nat), z < n → a' < 5 → y < n → ∀ (c b : Nat) (q : AH), b + c = 5 → FnE B n h (bdr n S) ed w Ww WF T q (4 * rw3 N (8 * z + rsN a') (8 * y + rsN b) 0) → (∀ (q' : AH) (u6 : AV), FnE B n h (bdr n S) ed w Ww WF T q' (4 * rw3 N (8 * z + rsN a') (8 * (y + 1)) 0) → Ends (ev PP (gsF gv) B d 162 42 [(2, rf (B + 82)), (2, rf a), (2, w), (0, (z : Int)), (0, (a' : Int)), (0, ((y + 1 : Nat) : Int)), u6] [] q') Q) → Ends (ev PP (gsF gv) B d 162 54 [(2, rf (B + 82)), (2, rf a), (2, w), (0, (z : Int)), (0, (a' : Int)), (0, (y : Int)), (0, (b : Int))] [] q) Q := by
    intro z a' y hz ha' hy c
    induction c with
    | zero =>
      intro b q e i nx
      obtain rfl : b = 5 := by omega
      refine Ends.eq (b162_54 i.lx (by omega)) (Ends.b3 (fun _ => ?_) (fun w => absurd w (by omega)))
      rw [w_succ (by omega)]
      exact nx q _ (by rw [show 8 * (y + 1) = 8 * y + rsN 5 from rfl]; exact i)
    | succ c ih =>
      intro b q e i nx
      have hb : b < 5 := by omega
      have v1 := so2 i a' b 0 ha' hb (by decide)
      have v2 := so2 i a' b 1 ha' hb (by decide)
      have t1 : ∀ _ : Unit, bop32 96 (bop32 104 (10 : Int) (a' : Int)) (bop32 104 (2 : Int) (b : Int)) = ((10 * a' + 2 * b + 0 : Nat) : Int) := fun _ => by
        rw [show bop32 104 (10 : Int) (a' : Int) = ((10 * a' : Nat) : Int) from mulNN (x := 10) (by omega), show bop32 104 (2 : Int) (b : Int) = ((2 * b : Nat) : Int) from mulNN (x := 2) (by omega)]
        exact addNN (by omega)
      have t2 : ∀ _ : Unit, bop32 96 ((10 * a' + 2 * b + 0 : Nat) : Int) 1 = ((10 * a' + 2 * b + 1 : Nat) : Int) := fun _ => addNN (y := 1) (by omega)
      refine Ends.eq (b162_54 i.lx (by omega)) (Ends.b3 (fun w => absurd w (by omega)) (fun _ => ?_))
      rw [t1 (), t2 (), tn, tn, v1, v2]
      refine Ends.g ⟨by omega, by omega⟩ (Ends.g ⟨by omega, by omega⟩ ?_)
      have ra := rs_b ⟨a', by omega⟩
      have rb := rs_b ⟨b, by omega⟩
      simp only at ra rb
      have lq := i.lx
      rw [eN] at i
      refine Ends.cv lq (by decide +kernel) (c_pair167 (by omega) hn (so_row ha' hb) (so_order0 ⟨a', ha'⟩ ⟨b, hb⟩) (ra.2.2 ha').1 (rb.2.2 hb).1 hz hy ok' i) (fun q' l' _ _ _ i' => ?_)
      rw [← eN] at i'
      refine Ends.eq (b162_99 l' (by omega)) ?_
      rw [w_succ (by omega)]
      rw [show rw3 N (8 * z + rsN a') (8 * y + rsN b) N = rw3 N (8 * z + rsN a') (8 * y + rsN b + 1) 0 from rw3_z.symm] at i'
      refine ih (b + 1) q' (by omega) (i'.skip0 (rw3_mono (by have := (rb.2.2 hb).2; omega)) (fun c' h1 h2 => ?_)) nx
      have hy8 : 8 * y + rsN (b + 1) ≤ N := by have := (rs_b ⟨b + 1, by omega⟩).2.1; simp only at this; omega
      obtain ⟨-, z2, z3⟩ := rngY hN0 h1 h2 hy8
      refine no_scan (Or.inl ?_)
      have hb5 : b = 0 ∨ b = 1 ∨ b = 2 ∨ b = 3 ∨ b = 4 := by omega
      rw [eN] at z2 z3
      rcases hb5 with rfl | rfl | rfl | rfl | rfl <;> simp only [rsN, List.getD_cons_zero, List.getD_cons_succ] at z2 z3 <;> omega
  have ly : ∀ (z a' : Nat), z < n → a' < 5 → ∀ (c y : Nat) (q : AH) (u6 : AV), y + c = n → FnE B n h (bdr n S) ed w Ww WF T q (4 * rw3 N (8 * z + rsN a') (8 * y) 0) → (∀ (q' : AH) (u5 u6 : AV), FnE B n h (bdr n S) ed w Ww WF T q' (4 * rw3 N (8 * z + rsN a') (8 * n) 0) → Ends (ev PP (gsF gv) B d 162 33 [(2, rf (B + 82)), (2, rf a), (2, w), (0, (z : Int)), (0, ((a' + 1 : Nat) : Int)), u5, u6] [] q') Q) → Ends (ev PP (gsF gv) B d 162 42 [(2, rf (B + 82)), (2, rf a), (2, w), (0, (z : Int)), (0, (a' : Int)), (0, (y : Int)), u6] [] q) Q := by
    intro z a' hz ha' c
    induction c with
    | zero =>
      intro y q u6 e i nx
      obtain rfl : n = y := by omega
      refine Ends.eq (b162_42 i.lx (by omega)) (Ends.b3 (fun _ => ?_) (fun w => absurd w (by omega)))
      rw [w_succ (by omega)]
      exact nx q _ _ i
    | succ c ih =>
      intro y q u6 e i nx
      have hy : y < n := by omega
      refine Ends.eq (b162_42 i.lx (by omega)) (Ends.b3 (fun w => absurd w (by omega)) (fun _ => ?_))
      refine lb z a' y hz ha' hy 5 0 q rfl (i.skip0 (rw3_mono (by omega)) (fun c' h1 h2 => ?_)) (fun q' u6 i' => ih (y + 1) q' u6 (by omega) i' nx)
      obtain ⟨-, z2, z3⟩ := rngY hN0 h1 h2 (by have := (rs_b ⟨0, by omega⟩).2.1; simp only at this; omega)
      refine no_scan (Or.inl ?_)
      simp only [rsN, List.getD_cons_zero] at z3
      rw [eN] at z2 z3
      omega
  have la : ∀ (z : Nat), z < n → ∀ (c a' : Nat) (q : AH) (u5 u6 : AV), a' + c = 5 → FnE B n h (bdr n S) ed w Ww WF T q (4 * rw3 N (8 * z + rsN a') 0 0) → (∀ (q' : AH) (u4 u5 u6 : AV), FnE B n h (bdr n S) ed w Ww WF T q' (4 * rw3 N (8 * (z + 1)) 0 0) → Ends (ev PP (gsF gv) B d 162 22 [(2, rf (B + 82)), (2, rf a), (2, w), (0, ((z + 1 : Nat) : Int)), u4, u5, u6] [] q') Q) → Ends (ev PP (gsF gv) B d 162 33 [(2, rf (B + 82)), (2, rf a), (2, w), (0, (z : Int)), (0, (a' : Int)), u5, u6] [] q) Q := by
    intro z hz c
    induction c with
    | zero =>
      intro a' q u5 u6 e i nx
      obtain rfl : a' = 5 := by omega
      refine Ends.eq (b162_33 i.lx (by omega)) (Ends.b3 (fun _ => ?_) (fun w => absurd w (by omega)))
      rw [w_succ (by omega)]
      exact nx q _ _ _ (by rw [show 8 * (z + 1) = 8 * z + rsN 5 from rfl]; exact i)
    | succ c ih =>
      intro a' q u5 u6 e i nx
      have ha' : a' < 5 := by omega
      have ra := rs_b ⟨a', by omega⟩
      simp only at ra
      refine Ends.eq (b162_33 i.lx (by omega)) (Ends.b3 (fun w => absurd w (by omega)) (fun _ => ?_))
      refine ly z a' hz ha' n 0 q _ (by omega) i (fun q' u5 u6 i' => ih (a' + 1) q' u5 u6 (by omega) (i'.skip0 ?_ (fun c' h1 h2 => ?_)) nx)
      · rw [← eN, ← rw3_t]
        exact rw3_let (by have := (ra.2.2 ha').2; omega)
      · rw [← eN, ← rw3_t] at h1
        refine no_scan (Or.inr ?_)
        have d1 : 8 * z + rsN a' + 1 ≤ c' / (N * N) := by
          rw [Nat.le_div_iff_mul_le (Nat.mul_pos hN0 hN0)]
          unfold rw3 at h1
          rw [← Nat.mul_assoc]
          omega
        have d2 : c' / (N * N) < 8 * z + rsN (a' + 1) := by
          rw [Nat.div_lt_iff_lt_mul (Nat.mul_pos hN0 hN0)]
          unfold rw3 at h2
          rw [← Nat.mul_assoc]
          omega
        have ha5 : a' = 0 ∨ a' = 1 ∨ a' = 2 ∨ a' = 3 ∨ a' = 4 := by omega
        rw [eN] at d1 d2
        rcases ha5 with rfl | rfl | rfl | rfl | rfl <;> simp only [rsN, List.getD_cons_zero, List.getD_cons_succ] at d1 d2 <;> omega
  have lz : ∀ (c z : Nat) (q : AH) (u4 u5 u6 : AV), z + c = n → FnE B n h (bdr n S) ed w Ww WF T q (4 * rw3 N (8 * z) 0 0) → Ends (ev PP (gsF gv) B d 162 22 [(2, rf (B + 82)), (2, rf a), (2, w), (0, (z : Int)), u4, u5, u6] [] q) Q := by
    intro c
    induction c with
    | zero =>
      intro z q u4 u5 u6 e i
      have e : z = n := by omega
      rw [e] at i ⊢
      rw [← eN] at i
      exact fin q u4 u4 u5 u6 i
    | succ c ih =>
      intro z q u4 u5 u6 e i
      have hz : z < n := by omega
      refine Ends.eq (b162_22 i.lx (by omega)) (Ends.b3 (fun w => absurd w (by omega)) (fun _ => ?_))
      refine la z hz 5 0 q _ _ rfl (i.skip0 (rw3_let (by omega)) (fun c' h1 h2 => ?_)) (fun q' u4 u5 u6 i' => ih (z + 1) q' u4 u5 u6 (by omega) i')
      refine no_scan (Or.inr ?_)
      have d1 : 8 * z ≤ c' / (N * N) := by
        rw [Nat.le_div_iff_mul_le (Nat.mul_pos hN0 hN0)]
        unfold rw3 at h1
        rw [← Nat.mul_assoc]
        omega
      have d2 : c' / (N * N) < 8 * z + rsN 0 := by
        rw [Nat.div_lt_iff_lt_mul (Nat.mul_pos hN0 hN0)]
        unfold rw3 at h2
        rw [← Nat.mul_assoc]
        omega
      simp only [rsN, List.getD_cons_zero] at d2
      rw [eN] at d1 d2
      omega
  exact lz n 0 h2 _ _ _ (by omega) (by rw [eN]; exact ini)
/-- one face once more -/
theorem c_look165 {pc cap kc m K : Nat} {ka : Nat → Nat} {F : Nat → Nat} {i : Nat} {WJ : (Nat → Bool) → AH → Prop} (l : LX B n h) (hd : 28 ≤ d) (hn4 : 4 ≤ n) (hn : n ≤ 52) (tb : TbC B h) (u : BsU B h) (R : Reg B n h) (s : SG n h a S) (ha : a < hnx h) (hB : B + 83 < a) (hne : ∀ f, f < 4 → hv h (B + 83) f ≠ rf a) (A : FaI B h pc cap ka kc) (hi : i < min m 4096) (hkc : min m 4096 ≤ kc) (ct : FaK n h (bdr n S) ka m F) (hK : F i = K) (L : Fst n (bdr n S) K) (wt : Wat gv B n (bdr n S) K w (i : Int) Ww WJ) (w0 : WJ (fun _ => false) h)
    (hst : ∀ V q q', WJ V q → (∀ c k, c < hnx h → ¬ FdW B h c k → hv q' c k = hv q c k) → (∀ c, c < hnx h → hk q' c = hk q c) → WJ V q') (hWw : ∀ c k, Ww c k → c < hnx h ∧ ¬ FdW B h c k ∧ ¬ (B + 36 ≤ c ∧ c ≤ B + 50) ∧ (∀ i, i < 39 → ¬ (c = B + rgC i ∧ k = rgK i)) ∧ c ≠ B + 91) :
    Vd (cll PP (ev PP (gsF gv) B) d 165 [(2, rf (B + 82)), (2, (rf a)), (0, (i : Int)), (2, w)] h) (fun h' => ∃ V pc' cap', (∀ k, k < 4 * gN n → (V k = true ↔ FRe n (bdr n S) K k)) ∧ FaI B h' pc' cap' ka kc ∧ (hnx h ≤ pc' ∨ hv h (B + 82) 3 = rf pc') ∧ (∀ k, k = 5 ∨ k = 6 → hv h' (B + 82) k = hv h (B + 82) k) ∧ FaK n h' (bdr n S) ka m F ∧ hv h' (B + 36) 17 = 1 ∧ BsC B h' ∧ Reg B n h' ∧ hus h' + lzy B n h' + (32768 - 2 * cap') = hus h + lzy B n h + (32768 - 2 * cap) ∧ cel h h' ∧ ExG (fun c k => FdW B h c k ∨ Ww c k) h h' ∧ WJ V h') := by
  have hb := l.2.2
  have hn0 : 0 < n := by omega
  obtain ⟨P, Ka, kp⟩ := A
  refine Vd.inq (D := 27) hd (Nat.le_of_ble_eq_true rfl) rfl (fun d hd Q KK => ?_)
  refine Ends.eq (b165_0 l (by omega)) ?_
  refine Ends.cv l (by decide +kernel) (c_begin158 l (by omega) hn4 hn R tb u s ha hB hne) (fun h1 l1 _ _ _ ⟨⟨ed, F1, eo⟩, e17, bs, R1, u1, ce1, X1⟩ => ?_)
  refine Ends.eq (b165_5 l1 (by omega)) ?_
  have bF : ∀ c k, bgW B h c k → FdW B h c k := fun c k z => by
    rcases z with z | z | z
    · exact Or.inr (Or.inl z)
    · exact Or.inr (Or.inr (Or.inl z.1))
    · exact Or.inr (Or.inr (Or.inr (Or.inl z)))
  obtain ⟨p1, p2, p3, p4, p5, p6, p7⟩ := P
  have edo : ∀ c f, f < 4 → hv h (B + 83) f = rf c → (hk h c = (3, 24 * n * n) ∧ B + 246 ≤ c) := fun c f hf e => by
    rcases R.1 (33 + f) (by omega) with y | ⟨e', y1, y2, y3, y4⟩
    · rw [rgV_e hf, e] at y; have := rf_pos c; omega
    · rw [rgV_e hf, e] at y1
      have : c = e' := by unfold rf at y1; omega
      rw [this]; exact ⟨y4, y2⟩
  have nbg : ∀ c k, bgW B h c k → c ≠ B + 82 ∧ (∀ mm, hk h c ≠ (2, mm)) ∨ (B + 36 ≤ c ∧ c ≤ B + 50) ∨ c = B + 83 := fun c k z => by
    rcases z with z | z | ⟨f, hf, z⟩
    · right; left; unfold nbW at z; omega
    · right; right; exact z.1
    · obtain ⟨z1, z2⟩ := edo c f hf z
      left
      exact ⟨by omega, fun mm e => by rw [z1] at e; exact absurd (show (3 : Nat) = 2 from congrArg Prod.fst e) (by decide)⟩
  have f82 : ∀ k, hv h1 (B + 82) k = hv h (B + 82) k := fun k => X1.at k (by omega) (fun z => by rcases nbg _ _ z with y | y | y; exact y.1 rfl; omega; omega)
  have kpk : ∀ j k, j < 6 → hv h1 (ka j) k = hv h (ka j) k := fun j k hj => by
    obtain ⟨-, a2, a3, a4⟩ := Ka.1 j hj
    exact X1.at k a4 (fun z => by rcases nbg _ _ z with y | y | y; exact y.2 _ a2; omega; omega)
  obtain ⟨a1, a2, a3, a4⟩ := Ka.1 5 (by decide)
  have a1 : hv h1 (B + 82) 12 = rf (ka 5) := by rw [f82]; exact a1
  have n1 := X1.2.2.1
  have k5 : hk h1 (ka 5) = (2, kc) := by rw [X1.hk a4]; exact a2
  rw [a1, ad_rf, k5, tn]
  have G2 : Agr (fun c k => c = B + 82 ∧ k = 16) h1 (hset h1 (B + 82) 16 w) := Agr.rf.set ⟨rfl, rfl⟩
  have l2 : LX B n (hset h1 (B + 82) 16 w) := LX.setF 82 16 l1 (by decide +kernel)
  have v16 : hv (hset h1 (B + 82) 16 w) (B + 82) 16 = w := hv_set_at ..
  refine Ends.g ⟨rf_pos _, rfl, by omega, by show (i : Int) < ((kc : Nat) : Int); omega⟩ ?_
  generalize hset h1 (B + 82) 16 w = h2 at *
  have first : hv h2 (ka 5) i = (cdN n K : Int) := by
    rw [G2.at _ _ (by omega), kpk 5 i (by decide), ct i hi 5 (by decide), hK]; rfl
  rw [first]
  have hb1 := l1.2.2
  have mm2 : TbC B h2 := (tb.ext hb X1 (fun c k h1 h2 z => by rcases z with z | z | ⟨f, hf, z⟩; unfold nbW at z; omega; omega; have := (edo c f hf z).2; omega)).ext hb1 G2.ext (fun c k h1 h2 z => by omega)
  have bs2 : BsC B h2 := fun k s' hk hs => by
    have := bs k s' hk hs
    exact ⟨by rw [G2.at _ _ (by omega)]; exact this.1, fun a ha => by rw [G2.at _ _ (by omega)]; exact this.2 a ha⟩
  have F2 : FcE B n h2 ed (bdr n S) := F1.exg hb1 G2.ext.exg (fun f hf z => by omega) (fun f k hf z => by have := (F1.1 f hf).2.1; omega)
  have P2 : PlS B h2 pc cap 0 := ⟨by rw [G2.at _ _ (by omega), f82]; exact p1, by rw [G2.at _ _ (by omega), f82]; exact p2, by rw [G2.hk, X1.hk p5]; exact p3, p4, by rw [G2.nx]; omega, p6, p7⟩
  have edn : ∀ f, f < 4 → ed f ≠ pc := fun f hf e => by
    have a := (F2.1 f hf).2.2.2.1
    have b := P2.2.2.1
    rw [e, b] at a
    exact absurd (show (2 : Nat) = 3 from congrArg Prod.fst a) (by decide)
  have X12 : ExG (FdW B h) h h2 := (X1.exg.sub (fun c k _ z => bF c k z)).tr G2.ext.exg (fun c k _ z => Or.inl z.1)
  have n2 : hnx h2 = hnx h1 := G2.nx
  have old : ∀ c k, c < hnx h → fcW B ed pc c k → FdW B h c k := fun c k hc z => by
    rcases z with z | ⟨f, hf, z⟩ | z
    · exact Or.inl z.1
    · rcases eo f hf with y | y
      · omega
      · exact Or.inr (Or.inr (Or.inr (Or.inl ⟨f, hf, by rw [z]; exact y⟩)))
    · exact Or.inr (Or.inr (Or.inr (Or.inr (Or.inl (by rw [z]; exact p1)))))
  obtain ⟨R2, L2⟩ := R1.ext hb1 G2.ext (fun i hi z => by have := rgi hi; omega)
  refine Ends.cv l2 (by decide +kernel) (c_trace170 l2 (by omega) hn mm2 bs2 F2 P2 edn L.1 L.2.1 v16 wt (hst _ h h2 w0 (fun c k hc z => X12.at k hc z) (fun c hc => X12.hk hc)) (fun c k z => ?_) (fun V q q' wi z1 z2 => hst V q q' wi (fun c k hc z => z1 c k (by omega) (fun y => z (old c k hc y))) (fun c hc => z2 c (by omega)))) (fun q l3 _ _ _ ⟨V, pc', cap', v1, F3, P3, o3, C3, rm3, ce3, X3, wi⟩ => ?_)
  · obtain ⟨b1, b2, b3, -⟩ := hWw c k z
    exact ⟨by omega, fun e => b2 (Or.inl e), fun e => b2 (Or.inr (Or.inr (Or.inl e))), by omega, fun f hf e => b2 (old c k b1 (Or.inr (Or.inl ⟨f, hf, e⟩))), fun e => b2 (old c k b1 (Or.inr (Or.inr e)))⟩
  · have nW : ∀ c k, B + 246 > c → c ≠ B + 82 → c ≠ B + 84 → ¬ Ww c k → ¬ (fcW B ed pc c k ∨ Ww c k) := fun c k h1 h2 h3 h4 z => by
      rcases z with (z | ⟨f, hf, z⟩ | z) | z
      · omega
      · have := (F2.1 f hf).2.1; omega
      · omega
      · exact h4 z
    have noWw : ∀ c k, B + 36 ≤ c → c ≤ B + 50 → ¬ Ww c k := fun c k h1 h2 z => by have := (hWw c k z).2.2.1; omega
    have hb2 := l2.2.2
    obtain ⟨R3, L3⟩ := R2.exg hb2 X3 (fun i hi => nW _ _ (by have : rgC i < 149 := (rgC_lt ⟨i, hi⟩).1; omega) (by have := rgi hi; omega) (by have := rgi hi; omega) (fun z => (hWw _ _ z).2.2.2.1 i hi ⟨rfl, rfl⟩))
    have nka : ∀ j k, j < 6 → hv q (ka j) k = hv h (ka j) k := fun j k hj => by
      obtain ⟨z1, z2, z3, z4⟩ := Ka.1 j hj
      rw [X3.at k (by omega) (fun z => ?_), G2.at _ _ (by omega), kpk j k hj]
      rcases z with (z | ⟨f, hf, z⟩ | z) | z
      · omega
      · have a := (F2.1 f hf).2.2.2.1
        rw [← z, G2.hk, X1.hk z4, z2] at a
        exact absurd (show (2 : Nat) = 3 from congrArg Prod.fst a) (by decide)
      · exact kp j hj z
      · exact (hWw _ _ z).2.1 (Or.inr (Or.inr (Or.inr (Or.inr (Or.inr ⟨j, hj, z1⟩)))))
    have g82 : ∀ k, k ≠ 3 → k ≠ 4 → k ≠ 13 → k ≠ 14 → k ≠ 15 → k ≠ 16 → hv q (B + 82) k = hv h (B + 82) k := fun k h1 h2 h3 h4 h5 h6 => by
      rw [X3.at k (by omega) (fun z => ?_), G2.at _ _ (by omega), f82]
      rcases z with (z | ⟨f, hf, z⟩ | z) | z
      · omega
      · have := (F2.1 f hf).2.1; omega
      · omega
      · exact (hWw _ _ z).2.1 (Or.inl rfl)
    have n3 := X3.2.2.1
    have rm3' : hus q + (32768 - 2 * cap') = hus h2 + (32768 - 2 * cap) := rm3
    have o3' : hnx h ≤ pc' ∨ hv h (B + 82) 3 = rf pc' := by
      rcases o3 with y | y
      · exact Or.inr (by rw [y]; exact p1)
      · exact Or.inl (by omega)
    have u2 : hus h2 = hus h1 := G2.us
    refine Ends.eq (b165_21 l3 (by omega)) (Ends.sm (KK _ ⟨V, pc', cap', v1, ⟨P3, ⟨fun j hj => ?_, Ka.2⟩, fun j hj e => ?_⟩, o3', fun k hk => g82 k (by omega) (by omega) (by omega) (by omega) (by omega) (by omega), fun i hi j hj => by rw [nka j i hj]; exact ct i hi j hj, ?_, ?_, R3, by omega, (ce1.tr (cel.agr G2)).tr ce3, (X12.sub (fun _ _ _ z => Or.inl z)).tr X3 (fun c k hc z => z.imp (old c k hc) id), wi⟩))
    · obtain ⟨z1, z2, z3, z4⟩ := Ka.1 j hj
      exact ⟨by rw [g82 _ (by omega) (by omega) (by omega) (by omega) (by omega) (by omega)]; exact z1, by rw [X3.hk (by omega), G2.hk, X1.hk z4]; exact z2, z3, by omega⟩
    · obtain ⟨z1, z2, z3, z4⟩ := Ka.1 j hj
      rcases o3 with y | y
      · exact kp j hj (e.trans y)
      · omega
    · rw [X3.at _ (by omega) (nW _ _ (by omega) (by omega) (by omega) (noWw _ _ (by omega) (by omega))), G2.at _ _ (by omega)]
      exact e17
    · exact bs2.exg hb2 X3 (fun c k h1 => nW c k (by omega) (by omega) (by omega) (noWw c k (by omega) (by omega)))
end FFD
