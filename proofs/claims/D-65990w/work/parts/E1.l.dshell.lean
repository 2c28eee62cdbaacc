/-! L3: walls (desk): the whole -/
section DSH
variable {gv : Nat → Int} {B n d tl op r : Nat} {h : AH} {S : Nat → Bool} {en : Nat → Int}
def bXo (op : Nat) (en : Nat → Int) (t x : Nat) : Bool := byd op (en 0) (en 1) ((8 * x + rT t 0 : Nat) : Int)
/-- the solid and what is beyond it, in wide directions -/
def shB (n op : Nat) (en : Nat → Int) (S : Nat → Bool) (t z y x : Nat) : Bool := S (gI n x y z t) || ((bYo op en t y || bZo op en t z) || bXo op en t x)
/-- what is inside the walls -/
def shI2 (n op r : Nat) (en : Nat → Int) (S : Nat → Bool) (g : Nat) : Bool := itr (shR n op (bYo op en) (bZo op en)) r (shB n op en S) (gSo g) (gZ n g) (gY n g) (gX n g)
def shW (B tl : Nat) : Nat → Nat → Prop := fun c _ => c = B + 117 ∨ c = tl ∨ c = B + 109 ∨ c = B + 111
set_option maxHeartbeats 2000000 in
theorem c_shell306 (l : LX B n h) (hd : 18 ≤ d) (hn0 : 0 < n) (hn : n ≤ 52) (m : TbC B h) (sp : SG n h (B + 117) S) (e12 : hv h (B + 92) 12 = rf tl) (htl : B + 246 ≤ tl) (kt : hk h tl = (3, 24 * n * n)) (e0 : hv h (B + 97) 0 = (r : Int)) (e1 : hv h (B + 97) 1 = (op : Int)) (ho : op < 64) (hr : r ≤ 8) :
    Vd (cll PP (ev PP (gsF gv) B) d 306 [(2, rf (B + 92))] h) (fun h' => Agr (shW B tl) h h' ∧ ∃ en : Nat → Int, (∀ a, a < 3 → EdS false (enP n S a 24) (en (2 * a)) ∧ EdS true (enP n S a 24) (en (2 * a + 1))) ∧ SG n h' (B + 117) (fun g => S g && !shI2 n op r en S g)) := by
  have hN := rows_le hn
  have o2 : bop32 122 (op : Int) 2 = ((op / 4 : Nat) : Int) := shrN (k := 2) (by omega) (by decide)
  have o4 : bop32 122 (op : Int) 4 = ((op / 16 : Nat) : Int) := shrN (k := 4) (by omega) (by decide)
  have o3 : bop32 126 (op : Int) 3 = ((op % 4 : Nat) : Int) := andN (k := 2) (by decide)
  refine Vd.inq (D := 17) hd (Nat.le_of_ble_eq_true rfl) rfl (fun d hd Q K => ?_)
  -- the end: so often smaller, then taken away
  have last : ∀ (en : Nat → Int), (∀ a, a < 3 → EdS false (enP n S a 24) (en (2 * a)) ∧ EdS true (enP n S a 24) (en (2 * a + 1))) → ∀ (c k : Nat) (q : AH) (u4 u5 u6 u7 : AV), k + c = r → LX B n q → Agr (shW B tl) h q → (∀ k, k < 6 → hv q (B + 109) k = en k) → SG n q (B + 117) S → Sol n q tl (onK n (itr (shR n op (bYo op en) (bZo op en)) k (shB n op en S))) → Ends (ev PP (gsF gv) B d 306 297 [(2, rf (B + 92)), (0, (op : Int)), (2, rf (B + 109)), (0, (k : Int)), u4, u5, u6, u7] [] q) Q := by
    intro en hen c
    have eb : ∀ k, k < 6 → 0 ≤ en k ∧ en k ≤ 200 := fun k hk => by
      obtain ⟨a, ha, hak⟩ : ∃ a, a < 3 ∧ (k = 2 * a ∨ k = 2 * a + 1) := ⟨k / 2, by omega, by omega⟩
      rcases hak with rfl | rfl
      · obtain ⟨v, e, b⟩ := (hen a ha).1.nat ha; omega
      · obtain ⟨v, e, b⟩ := (hen a ha).2.nat ha; omega
    induction c with
    | zero =>
      intro k q u4 u5 u6 u7 e lq gq eq sq st
      obtain rfl : k = r := by omega
      have e12q : hv q (B + 92) 12 = rf tl := by rw [gq.at _ _ (fun z => by unfold shW at z; omega)]; exact e12
      have e0q : hv q (B + 97) 0 = (k : Int) := by rw [gq.at _ _ (fun z => by unfold shW at z; omega)]; exact e0
      refine Ends.eq (b306_297 lq (by omega)) ?_
      rw [show Int.toNat 0 = 0 from rfl, e0q, e12q]
      refine Ends.b3 (fun _ => ?_) (fun z => by omega)
      refine Ends.cv lq (by decide +kernel) (c_less lq (by omega) hn sq st (by omega)) (fun q2 l2 _ _ _ ⟨f2, s2⟩ => ?_)
      refine Ends.eq (b306_334 l2 (by omega)) ?_
      refine Ends.sm (K _ ⟨gq.tr f2.fr.agr (fun c k z => Or.inl z), en, hen, SG.of hn0 s2 (fun t z y x ht hz hy hx => ?_)⟩)
      show (onK n _ _ _ && !onK n _ _ _) = (S (gI n x y z t) && !shI2 n op k en S (gI n x y z t))
      unfold shI2
      rw [onK_at hz hy, onK_at hz hy, gSo_I ht, gZ_I hx hy ht, gY_I hx hy ht, gX_I hx ht]
    | succ c ih =>
      intro k q u4 u5 u6 u7 e lq gq eq sq st
      have e12q : hv q (B + 92) 12 = rf tl := by rw [gq.at _ _ (fun z => by unfold shW at z; omega)]; exact e12
      have e0q : hv q (B + 97) 0 = (r : Int) := by rw [gq.at _ _ (fun z => by unfold shW at z; omega)]; exact e0
      have mq : TbC B q := m.ext l.2.2 gq.ext (fun c k z1 z2 w => by unfold shW at w; omega)
      refine Ends.eq (b306_297 lq (by omega)) ?_
      rw [show Int.toNat 0 = 0 from rfl, e0q]
      refine Ends.b3 (fun z => by omega) (fun _ => ?_)
      refine Ends.cv lq (by decide +kernel) (c_shrinkOnce308 (en := en) lq (by omega) hn0 hn mq st htl e12q ho eq eb) (fun q2 l2 _ _ _ ⟨f2, s2⟩ => ?_)
      refine Ends.eq (b306_313 l2 (by omega)) ?_
      rw [w_succ (by omega)]
      refine ih (k + 1) q2 _ _ _ _ (by omega) l2 (gq.tr f2.agr (fun c k z => by unfold shW; omega)) (fun k hk => ?_) (sq.agr f2.agr (fun _ z => by omega)) s2
      rw [f2.1 _ (by omega)]; exact eq k hk
  -- what is beyond comes to the tool
  have bey : ∀ (en : Nat → Int), (∀ a, a < 3 → EdS false (enP n S a 24) (en (2 * a)) ∧ EdS true (enP n S a 24) (en (2 * a + 1))) → ∀ (hc : AH) (u4 u5 u6 u7 : AV), LX B n hc → Agr (shW B tl) h hc → (∀ k, k < 6 → hv hc (B + 109) k = en k) → SG n hc (B + 117) S → SG n hc tl S → Ends (ev PP (gsF gv) B d 306 80 [(2, rf (B + 92)), (0, (op : Int)), (2, rf (B + 109)), (0, 0), u4, u5, u6, u7] [] hc) Q := by
    intro en hen hc u4 u5 u6 u7 lc gc ec sc stc
    have eb : ∀ k, k < 6 → 0 ≤ en k ∧ en k ≤ 200 := fun k hk => by
      obtain ⟨a, ha, hak⟩ : ∃ a, a < 3 ∧ (k = 2 * a ∨ k = 2 * a + 1) := ⟨k / 2, by omega, by omega⟩
      rcases hak with rfl | rfl
      · obtain ⟨v, e, b⟩ := (hen a ha).1.nat ha; omega
      · obtain ⟨v, e, b⟩ := (hen a ha).2.nat ha; omega
    have mc : TbC B hc := m.ext l.2.2 gc.ext (fun c k z1 z2 w => by unfold shW at w; omega)
    have e12c : hv hc (B + 92) 12 = rf tl := by rw [gc.at _ _ (fun z => by unfold shW at z; omega)]; exact e12
    have key := tzy (n := n) hn0 (fun p q => LX B n q ∧ Rw n hc tl (onK n (shB n op en S)) q p)
      (fun t q => ∀ u4 u5 u6 u7, Ends (ev PP (gsF gv) B d 306 80 [(2, rf (B + 92)), (0, (op : Int)), (2, rf (B + 109)), (0, (t : Int)), u4, u5, u6, u7] [] q) Q)
      (fun t z q => ∀ u5 u6 u7, Ends (ev PP (gsF gv) B d 306 89 [(2, rf (B + 92)), (0, (op : Int)), (2, rf (B + 109)), (0, (t : Int)), (0, (z : Int)), u5, u6, u7] [] q) Q)
      (fun t z y q => ∀ u6 u7, Ends (ev PP (gsF gv) B d 306 101 [(2, rf (B + 92)), (0, (op : Int)), (2, rf (B + 109)), (0, (t : Int)), (0, (z : Int)), (0, (y : Int)), u6, u7] [] q) Q)
      (fun t q ht i k u4 u5 u6 u7 => Ends.eq (b306_80 i.1 (by omega)) (Ends.b3 (fun w => absurd w (by omega)) (fun _ => k _ _ _)))
      (fun t z q ht hz i k u5 u6 u7 => Ends.eq (b306_89 i.1 (by omega)) (Ends.b3 (fun w => absurd w (by omega)) (fun _ => k _ _)))
      (fun t q ht i k u5 u6 u7 => Ends.eq (b306_89 i.1 (by omega)) (Ends.b3 (fun _ => by rw [w_succ (by omega)]; exact k _ _ _ _) (fun w => absurd w (by omega))))
      (fun t z q ht hz i k u6 u7 => Ends.eq (b306_101 i.1 (by omega)) (Ends.b3 (fun _ => by rw [w_succ (by omega)]; exact k _ _ _) (fun w => absurd w (by omega))))
      ?_
      (fun q i u4 u5 u6 u7 => Ends.eq (b306_80 i.1 (by omega)) (Ends.b3 (fun _ => by
        obtain ⟨lq, R⟩ := i
        exact last en hen r 0 q _ _ _ _ (by omega) lq (gc.tr R.1 (fun c k z => Or.inr (Or.inl z))) (fun k hk => by rw [R.1.at _ _ (by omega)]; exact ec k hk) (sc.agr R.1 (fun _ z => by omega)) (R.fin stc.1)) (fun w => absurd w (by omega))))
    · exact key hc ⟨lc, Rw.ini⟩ _ _ _ _
    · intro t z y q ht hz hy i k u6 u7
      obtain ⟨lq, R⟩ := i
      have r1 := rw3_lt ht hz hy
      have g := R.1
      obtain ⟨p, ep⟩ : ∃ p, p = rw3 n t z y := ⟨_, rfl⟩
      have m1 := (mc.1 t ht).1
      have y0 : rT t 0 < 8 := (rT_lt ⟨t, ht⟩ 0).2
      have y1 : rT t 1 < 8 := (rT_lt ⟨t, ht⟩ 1).2
      have y2 : rT t 2 < 8 := (rT_lt ⟨t, ht⟩ 2).2
      have old : ∀ i, i < 64 → tb (hv q tl p) i = (decide (i < n) && S (gI n i y z t)) := fun i hi => by rw [R.2.2 p (by omega), ep]; exact stc.bit ht hz hy hi
      have cold : cn 1 (hv q tl p) := by rw [R.2.2 p (by omega), ep]; exact (stc.2 _ r1).1
      have kk : ∀ i, onK n (shB n op en S) p i = shB n op en S t z y i := fun i => by rw [ep, onK_at hz hy]
      rw [← ep] at R k r1
      have fin : ∀ q' u7, LX B n q' → Rw n hc tl (onK n (shB n op en S)) q' (p + 1) → Ends (ev PP (gsF gv) B d 306 277 [(2, rf (B + 92)), (0, (op : Int)), (2, rf (B + 109)), (0, (t : Int)), (0, (z : Int)), (0, (y : Int)), (0, (p : Int)), u7] [] q') Q := fun q' u7 l' R' => by
        refine Ends.eq (b306_277 l' (by omega)) ?_
        rw [w_succ (by omega)]
        exact k q' ⟨l', R'⟩ _ _
      have cell : ∀ {W : Nat → Nat → Prop} {q' : AH}, Agr W q q' → (∀ c k, c < B + 246 → ¬ W c k) → (∀ k, k < 6 → hv q' (B + 109) k = en k) ∧ (∀ a, a < 3 → hv q' (B + 37) (3 * t + a) = (rT t a : Nat)) ∧ hv q' (B + 92) 12 = rf tl := fun g' w => by
        refine ⟨fun k hk => ?_, fun a ha => ?_, ?_⟩
        · rw [g'.at _ _ (w _ _ (by omega)), g.at _ _ (by omega)]; exact ec k hk
        · rw [g'.at _ _ (w _ _ (by omega)), g.at _ _ (by omega)]; exact m1 a ha
        · rw [g'.at _ _ (w _ _ (by omega)), g.at _ _ (by omega)]; exact e12c
      obtain ⟨c1, c2, c3_⟩ := cell (Agr.rf (W := fun _ _ => False) (h := q)) (fun _ _ _ z => z)
      have t30 : bop32 104 (3 : Int) (t : Int) = ((3 * t : Nat) : Int) := mulNN (x := 3) (by omega)
      have t31 : bop32 96 (bop32 104 (3 : Int) (t : Int)) 1 = ((3 * t + 1 : Nat) : Int) := by rw [t30]; exact addNN (y := 1) (by omega)
      have t32 : bop32 96 (bop32 104 (3 : Int) (t : Int)) 2 = ((3 * t + 2 : Nat) : Int) := by rw [t30]; exact addNN (y := 2) (by omega)
      have c8 : ∀ x s : Nat, x < 52 → s < 8 → bop32 96 (bop32 104 (8 : Int) (x : Int)) ((s : Nat) : Int) = ((8 * x + s : Nat) : Int) := fun x s h1 h2 => by rw [show bop32 104 (8 : Int) (x : Int) = ((8 * x : Nat) : Int) from mulNN (x := 8) (by omega)]; exact addNN (by omega)
      have kq : hk q tl = (3, 24 * n * n) := by rw [g.hk]; exact stc.1
      have k109 : hk q (B + 109) = (2, 16) := lk_109 lq
      have hb : ∀ k, k < 6 → -1000 ≤ en k ∧ en k ≤ 1000 := fun k hk => by have := eb k hk; omega
      -- a whole row
      have full : (bYo op en t y || bZo op en t z) = true → Ends (ev PP (gsF gv) B d 306 192 [(2, rf (B + 92)), (0, (op : Int)), (2, rf (B + 109)), (0, (t : Int)), (0, (z : Int)), (0, (y : Int)), (0, (p : Int)), u7] [] q) Q := fun w => by
        refine Ends.eq (b306_192 lq (by omega)) ?_
        rw [c3_, ad_rf, kq, tn, an1]
        refine Ends.g ⟨rf_pos _, rfl, by omega, by show _ < ((24 * n * n : Nat) : Int); omega, by omega⟩ ?_
        refine fin _ _ (lxA (t := 1) lq kq) (R.put (by
          have h1 : (2 : Int) ^ n ≤ 2 ^ 52 := by
            have : (2 : Nat) ^ n ≤ 2 ^ 52 := Nat.pow_le_pow_right (by decide) hn
            exact_mod_cast this
          have h2 : (0 : Int) < 2 ^ n := Int.pow_pos (by decide)
          have h3 : (2 : Int) ^ 52 = 4503599627370496 := by decide
          unfold cn
          exact ⟨by omega, by omega⟩) (fun x hx => ?_))
        rw [tb_mask hn, kk]
        unfold shB
        rw [w, Bool.true_or, Bool.or_true, Bool.and_true]
      refine Ends.eq (b306_101 lq (by omega)) ?_
      rw [show v238 n (t : Int) (z : Int) (y : Int) = ((rw3 n t z y : Nat) : Int) from row_eq hn ht hz hy, ← ep, t31, t32, tn, tn, c2 1 (by decide), c2 2 (by decide), c8 y _ (by omega) y1, c8 z _ (by omega) y2, o2, o4, o3, show Int.toNat 2 = 2 from rfl, show Int.toNat 3 = 3 from rfl, show Int.toNat 4 = 4 from rfl, show Int.toNat 5 = 5 from rfl, ad_rf, c1 2 (by decide), c1 3 (by decide), c1 4 (by decide), c1 5 (by decide), k109, v273_is (o := op / 4) (by omega) (hb 2 (by decide)) (hb 3 (by decide)), v273_is (o := op / 16) (by omega) (hb 4 (by decide)) (hb 5 (by decide))]
      have eyo : byd (op / 4) (en 2) (en 3) ((8 * y + rT t 1 : Nat) : Int) = bYo op en t y := rfl
      have ezo : byd (op / 16) (en 4) (en 5) ((8 * z + rT t 2 : Nat) : Int) = bZo op en t z := rfl
      rw [eyo, ezo]
      refine Ends.b3 (fun w => absurd w (by omega)) (fun _ => Ends.g ⟨by omega, by omega⟩ (Ends.g ⟨rf_pos _, rfl, by decide, by decide⟩ (Ends.g ⟨rf_pos _, rfl, by decide, by decide⟩ ?_)))
      cases by_ : bYo op en t y
      rotate_left
      · exact Ends.b1 (fun _ => full (by rw [by_]; rfl)) (fun z => by rw [if_pos rfl] at z; exact absurd z (by decide))
      refine Ends.b1 (fun z => absurd rfl z) (fun _ => Ends.g ⟨by omega, by omega⟩ (Ends.g ⟨rf_pos _, rfl, by decide, by decide⟩ (Ends.g ⟨rf_pos _, rfl, by decide, by decide⟩ ?_)))
      cases bz : bZo op en t z
      rotate_left
      · exact Ends.b0 (fun z => by rw [if_pos rfl] at z; exact absurd z (by decide)) (fun _ => full (by rw [bz, Bool.or_true]))
      refine Ends.b0 (fun _ => ?_) (fun z => absurd rfl z)
      have sb : ∀ i, shB n op en S t z y i = (S (gI n i y z t) || bXo op en t i) := fun i => by unfold shB; rw [by_, bz]; rfl
      refine Ends.b0 (fun w => fin q _ lq (R.keep (fun _ => ⟨by rw [ep]; exact (stc.2 _ (ep ▸ r1)).1, fun x hx => ?_⟩))) (fun w => ?_)
      · rw [kk, sb, ep, stc.bit ht hz hy hx, show bXo op en t x = false from decide_eq_false (by omega), Bool.or_false]
      -- bit by bit
      have bits : ∀ (c i : Nat) (q' : AH), i + c = n → LX B n q' → Agr (fun c k => c = tl ∧ k = p) q q' → cn 1 (hv q' tl p) → (∀ j, j < 64 → tb (hv q' tl p) j = (decide (j < n) && (S (gI n j y z t) || (bXo op en t j && decide (j < i))))) → Ends (ev PP (gsF gv) B d 306 218 [(2, rf (B + 92)), (0, (op : Int)), (2, rf (B + 109)), (0, (t : Int)), (0, (z : Int)), (0, (y : Int)), (0, (p : Int)), (0, (i : Int))] [] q') Q := by
        intro c
        induction c with
        | zero =>
          intro i q' e l' g' cc bb
          obtain rfl : i = n := by omega
          refine Ends.eq (b306_218 l' (by omega)) (Ends.b3 (fun _ => fin q' _ l' (R.put2 g' (fun _ => cc) (fun _ x hx => ?_))) (fun w => by omega))
          rw [kk, sb, bb x hx]
          cases hx' : decide (x < i)
          · rfl
          · rw [Bool.and_true]
        | succ c ih =>
          intro i q' e l' g' cc bb
          have hi' : i < n := by omega
          obtain ⟨d1, d2, d3⟩ := cell g' (fun c k hc z => by omega)
          have kq' : hk q' tl = (3, 24 * n * n) := by rw [g'.hk]; exact kq
          have nxt : ∀ q2, LX B n q2 → Agr (fun c k => c = tl ∧ k = p) q q2 → cn 1 (hv q2 tl p) → (∀ j, j < 64 → tb (hv q2 tl p) j = (decide (j < n) && (S (gI n j y z t) || (bXo op en t j && decide (j < i + 1))))) → Ends (ev PP (gsF gv) B d 306 271 [(2, rf (B + 92)), (0, (op : Int)), (2, rf (B + 109)), (0, (t : Int)), (0, (z : Int)), (0, (y : Int)), (0, (p : Int)), (0, (i : Int))] [] q2) Q := fun q2 l2 g2 c2 b2 => by
            refine Ends.eq (b306_271 l2 (by omega)) ?_
            rw [w_succ (by omega)]
            exact ih (i + 1) q2 (by omega) l2 g2 c2 b2
          refine Ends.eq (b306_218 l' (by omega)) ?_
          rw [t30, tn, show hv q' (B + 37) (3 * t) = (rT t 0 : Nat) from d2 0 (by decide), c8 i _ (by omega) y0, show Int.toNat 0 = 0 from rfl, show Int.toNat 1 = 1 from rfl, ad_rf, d1 0 (by decide), d1 1 (by decide), lk_109 l', v273_is (o := op) ho (hb 0 (by decide)) (hb 1 (by decide)), d3, ad_rf, kq', tn, an1]
          have exo : byd op (en 0) (en 1) ((8 * i + rT t 0 : Nat) : Int) = bXo op en t i := rfl
          rw [exo]
          refine Ends.b3 (fun w => by omega) (fun _ => Ends.g ⟨by omega, by omega⟩ (Ends.g ⟨rf_pos _, rfl, by decide, by decide⟩ (Ends.g ⟨rf_pos _, rfl, by decide, by decide⟩ ?_)))
          cases bx : bXo op en t i
          · refine Ends.b0 (fun _ => nxt q' l' g' cc (fun j hj => ?_)) (fun z => absurd rfl z)
            rw [bb j hj]
            by_cases e2 : j = i
            · rw [e2, bx]; rfl
            · rw [show decide (j < i) = decide (j < i + 1) from by rw [decide_eq_decide]; omega]
          · refine Ends.b0 (fun z => by rw [if_pos rfl] at z; exact absurd z (by decide)) (fun _ => Ends.g ⟨rf_pos _, rfl, by omega, by show _ < ((24 * n * n : Nat) : Int); omega⟩ (Ends.g ⟨rf_pos _, rfl, by omega, by show _ < ((24 * n * n : Nat) : Int); omega, by omega⟩ ?_))
            refine nxt _ (lxA (t := 1) l' kq') (g'.set ⟨rfl, rfl⟩) (by rw [hv_set_at]; exact cn_bop64) (fun j hj => ?_)
            rw [hv_set_at, tb_or, bb j hj, one_bit (by omega) hj]
            by_cases e2 : j = i
            · rw [e2, bx, decide_eq_true hi', decide_eq_true (Eq.refl i), decide_eq_true (Nat.lt_succ_self i), Bool.or_true, Bool.true_and, Bool.true_and, Bool.or_true]
            · rw [decide_eq_false e2, Bool.or_false, show decide (j < i) = decide (j < i + 1) from by rw [decide_eq_decide]; omega]
      refine Ends.eq rfl ?_
      exact bits n 0 q (by omega) lq Agr.rf cold (fun j hj => by rw [old j hj, decide_eq_false (Nat.not_lt_zero j), Bool.and_false, Bool.or_false])
  -- the ends
  have ax : ∀ (c a : Nat) (q : AH), a + c = 3 → LX B n q → Agr (fun c _ => c = B + 109) h q → (∀ x, x < a → EdS false (enP n S x 24) (hv q (B + 109) (2 * x)) ∧ EdS true (enP n S x 24) (hv q (B + 109) (2 * x + 1))) → Ends (ev PP (gsF gv) B d 306 14 [(2, rf (B + 92)), (0, (op : Int)), (2, rf (B + 109)), (0, (a : Int)), (9, 0), (9, 0), (9, 0), (9, 0)] [] q) Q := by
    intro c
    induction c with
    | zero =>
      intro a q e lq gq lo
      obtain rfl : a = 3 := by omega
      refine Ends.eq (b306_14 lq (by omega)) (Ends.b3 (fun _ => ?_) (fun z => absurd z (by decide)))
      rw [gq.at _ _ (show ¬ B + 92 = B + 109 by omega), e12]
      refine Ends.cv lq (by decide +kernel) (c_copy (b := tl) lq (by omega) (sp.agr gq (fun _ z => by omega)) (by rw [gq.hk]; exact kt) (by omega)) (fun q2 l2 _ _ _ ⟨f2, s2⟩ => ?_)
      refine Ends.eq (b306_78 l2 (by omega)) ?_
      refine bey (fun k => hv q (B + 109) k) lo q2 _ _ _ _ l2 ((gq.sub (fun c k z => by unfold shW; omega)).tr f2.agr (fun c k z => by unfold shW; omega)) (fun k hk => f2.1 _ (by omega) k) ((sp.agr gq (fun _ z => by omega)).agr f2.agr (fun _ z => by omega)) s2
    | succ c ih =>
      intro a q e lq gq lo
      have ha3 : a < 3 := by omega
      have mq : TbC B q := m.ext l.2.2 gq.ext (fun c k z1 z2 w => by omega)
      have sq : SG n q (B + 117) S := sp.agr gq (fun _ z => by omega)
      have i2 : bop32 104 (2 : Int) (a : Int) = ((2 * a : Nat) : Int) := mulNN (x := 2) (by omega)
      have i3 : bop32 96 (bop32 104 (2 : Int) (a : Int)) 1 = ((2 * a + 1 : Nat) : Int) := by rw [i2]; exact addNN (y := 1) (by omega)
      refine Ends.eq (b306_14 lq (by omega)) (Ends.b3 (fun z => by omega) (fun _ => ?_))
      rw [i2]
      have cA := c_end (gv := gv) (d := d) (gr := false) lq (by omega) hn0 hn mq sq ha3
      simp only [Bool.false_eq_true, if_false] at cA
      refine Ends.ct lq (by decide +kernel) (by decide) cA (fun v5 h5 l5 _ _ _ ⟨e5, f5, d5⟩ => ?_)
      rw [e5] at l5 ⊢
      refine Ends.eq (b306_36 l5 (by omega)) ?_
      rw [ad_rf, lk_109 l5, tn, an0, i3]
      refine Ends.g ⟨rf_pos _, rfl, by omega, by show ((2 * a : Nat) : Int) < ((16 : Nat) : Int); omega, by omega⟩ ?_
      have l6 : LX B n (hset q (B + 109) (2 * a) v5) := LX.setS l5 rfl
      have g6 : Agr (fun c _ => c = B + 109) q (hset q (B + 109) (2 * a) v5) := Agr.rf.set rfl
      have cB := c_end (gv := gv) (d := d) (gr := true) l6 (by omega) hn0 hn (mq.ext lq.2.2 g6.ext (fun c k h1 h2 z => by omega)) (sq.agr g6 (fun k z => by omega)) ha3
      simp only [if_true] at cB
      refine Ends.ct l6 (by decide +kernel) (by decide) cB (fun v7 h7 l7 _ _ _ ⟨e7, f7, d7⟩ => ?_)
      subst e7
      refine Ends.eq (b306_56 l7 (by omega)) ?_
      rw [ad_rf, lk_109 l7, tn, an0, w_succ (by omega)]
      refine Ends.g ⟨rf_pos _, rfl, by omega, by show ((2 * a + 1 : Nat) : Int) < ((16 : Nat) : Int); omega, by omega⟩ ?_
      refine ih (a + 1) _ (by omega) (LX.setS l7 rfl) ((gq.set rfl).set rfl) (fun x hx => ?_)
      by_cases z : x = a
      · rw [z, hv_set_ne (by omega), hv_set_at, hv_set_at]
        exact ⟨d5.ed, d7.ed⟩
      · rw [hv_set_ne (by omega), hv_set_ne (by omega), hv_set_ne (by omega), hv_set_ne (by omega)]
        exact lo x (by omega)
  refine Ends.eq (b306_0 l (by omega)) ?_
  rw [show Int.toNat 1 = 1 from rfl, e1]
  exact ax 3 0 h rfl l Agr.rf (fun x hx => absurd hx (Nat.not_lt_zero x))
end DSH
