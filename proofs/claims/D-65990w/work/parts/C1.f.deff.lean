/-! L3: what the desk's lines do -/
section DEF1
variable {gv : Nat → Int} {B n d a sp : Nat} {h : AH} {S : Nat → Bool} {nb : Nat → Int}
theorem v155_d {x lo hi : Int} : v155 x lo hi = if decide (lo ≤ x ∧ x ≤ hi) = true then 1 else 0 := by
  unfold v155
  rw [ct2, ct4]
  by_cases h1 : x < lo
  · rw [if_pos h1, decide_eq_false (by omega), if_neg Bool.false_ne_true]
  · by_cases h2 : hi < x
    · rw [if_neg h1, if_pos h2, decide_eq_false (by omega), if_neg Bool.false_ne_true]
    · rw [if_neg h1, if_neg h2, decide_eq_true (by omega), if_pos rfl]
/-- the numbers of a line -/
def NbC (B : Nat) (h : AH) (many : Nat) (nb : Nat → Int) : Prop := ∀ k, k < many → hv h (B + 147) k = nb k
theorem NbC.agr {many : Nat} {W : Nat → Nat → Prop} {t : AH} (b : NbC B h many nb) (g : Agr W h t) (hW : ∀ k, ¬ W (B + 147) k) : NbC B t many nb := fun k hk => by rw [g.at _ _ (hW k)]; exact b k hk
theorem c_fields140 {many : Nat} (l : LX B n h) (hd : 10 ≤ d) (b : NbC B h many nb) (hm : many ≤ 6) :
    Vt 0 (cll PP (ev PP (gsF gv) B) d 140 [(2, rf (B + 143)), (0, (0 : Int)), (0, (many : Int))] h) (fun v h' => h' = h ∧ ((v = 1 ∧ ∀ k, k < many → -200 ≤ nb k ∧ nb k ≤ 200) ∨ (v = 0 ∧ ¬ ∀ k, k < many → -200 ≤ nb k ∧ nb k ≤ 200))) := by
  refine Vt.inq (D := 9) hd (Nat.le_of_ble_eq_true rfl) rfl (fun d hd P K => ?_)
  have key : ∀ (c k : Nat), k + c = many → (∀ j, j < k → -200 ≤ nb j ∧ nb j ≤ 200) → Ends (ev PP (gsF gv) B d 140 2 [(2, rf (B + 143)), (0, (0 : Int)), (0, (many : Int)), (0, (k : Int))] [] h) P := by
    intro c
    induction c with
    | zero =>
      intro k hk lo
      have hk' : k = many := by omega
      subst hk'
      refine Ends.eq (b140_2 (n := n) (by (repeat' first | assumption | refine LX.setF _ _ ?_ (by decide +kernel) | refine LX.setS ?_ rfl | refine LX.setA ?_ (by first | assumption | omega))) (by first | assumption | omega)) ?_
      exact Ends.b3 (fun _ => Ends.sm (K _ _ ⟨rfl, Or.inl ⟨rfl, lo⟩⟩)) (fun z => by omega)
    | succ c ih =>
      intro k hk lo
      have bad : ¬ (-200 ≤ nb k ∧ nb k ≤ 200) → Ends (ev PP (gsF gv) B d 140 31 [(2, rf (B + 143)), (0, (0 : Int)), (0, (many : Int)), (0, (k : Int))] [] h) P := fun w => by
        refine Ends.eq (b140_31 (n := n) (by (repeat' first | assumption | refine LX.setF _ _ ?_ (by decide +kernel) | refine LX.setS ?_ rfl | refine LX.setA ?_ (by first | assumption | omega))) (by first | assumption | omega)) ?_
        exact Ends.sm (K _ _ ⟨rfl, Or.inr ⟨rfl, fun z => w (z k (by omega))⟩⟩)
      refine Ends.eq (b140_2 (n := n) (by (repeat' first | assumption | refine LX.setF _ _ ?_ (by decide +kernel) | refine LX.setS ?_ rfl | refine LX.setA ?_ (by first | assumption | omega))) (by first | assumption | omega)) ?_
      rw [tn, b k (by omega)]
      refine Ends.b3 (fun z => by omega) (fun _ => Ends.g ⟨by omega, by omega⟩ (Ends.b2 (fun z => bad (by omega)) (fun z1 => Ends.b5 (fun z2 => ?_) (fun z2 => bad (by omega)))))
      rw [w_succ (by omega)]
      refine ih (k + 1) (by omega) (fun j hj => ?_)
      by_cases e : j = k
      · rw [e]; omega
      · exact lo j (by omega)
  refine Ends.eq (b140_0 (n := n) (by (repeat' first | assumption | refine LX.setF _ _ ?_ (by decide +kernel) | refine LX.setS ?_ rfl | refine LX.setA ?_ (by first | assumption | omega))) (by first | assumption | omega)) ?_
  exact key many 0 (by omega) (fun j hj => absurd hj (by omega))
def runOK (n : Nat) (nb : Nat → Int) : Bool := decide ((0 ≤ nb 0 ∧ nb 0 ≤ 23) ∧ (0 ≤ nb 1 ∧ nb 1 ≤ (n : Int) - 1) ∧ (0 ≤ nb 2 ∧ nb 2 ≤ (n : Int) - 1) ∧ (0 ≤ nb 3 ∧ nb 3 ≤ (n : Int) - 1) ∧ 1 ≤ nb 4 ∧ nb 4 ≤ (n : Int) - nb 3)
def runG (n : Nat) (nb : Nat → Int) (g : Nat) : Bool := decide ((gSo g : Int) = nb 0 ∧ (gZ n g : Int) = nb 1 ∧ (gY n g : Int) = nb 2 ∧ nb 3 ≤ (gX n g : Int) ∧ (gX n g : Int) < nb 3 + nb 4)
theorem runs_c {α : Type} {p0 p1 p2 p3 p4 : Bool} {x y : α} : (if p0 = true then if p1 = true then if p2 = true then if p3 = true then if p4 = true then x else y else y else y else y else y) = if (p0 && (p1 && (p2 && (p3 && p4)))) = true then x else y := by
  cases p0 <;> cases p1 <;> cases p2 <;> cases p3 <;> cases p4 <;> rfl
theorem c_run148 (l : LX B n h) (hd : 12 ≤ d) (hn0 : 0 < n) (hn : n ≤ 52) (b : NbC B h 5 nb) (sa : SG n h a S) (ha : B + 246 ≤ a) (nbb : ∀ k, k < 5 → -100000 < nb k ∧ nb k < 100000) :
    Vt 0 (cll PP (ev PP (gsF gv) B) d 148 [(2, rf (B + 143)), (2, rf a)] h) (fun v h' => (runOK n nb = true ∧ v = 1 ∧ Agr (fun c _ => c = a) h h' ∧ SG n h' a (fun g => S g || runG n nb g)) ∨ (runOK n nb = false ∧ v = 0 ∧ h' = h)) := by
  refine Vt.inq (D := 11) hd (Nat.le_of_ble_eq_true rfl) rfl (fun d hd P K => ?_)
  have b0 := b 0 (by decide)
  have b1 := b 1 (by decide)
  have b2 := b 2 (by decide)
  have b3 := b 3 (by decide)
  have b4 := b 4 (by decide)
  have n0 := nbb 0 (by decide)
  have n1 := nbb 1 (by decide)
  have n2 := nbb 2 (by decide)
  have n3 := nbb 3 (by decide)
  have n4 := nbb 4 (by decide)
  have i0 : Int.toNat (0 : Int) = 0 := rfl
  have i1 : Int.toNat (1 : Int) = 1 := rfl
  have i2 : Int.toNat (2 : Int) = 2 := rfl
  have i3 : Int.toNat (3 : Int) = 3 := rfl
  have i4 : Int.toNat (4 : Int) = 4 := rfl
  have bad : ∀ u : AV, runOK n nb = false → Ends (ev PP (gsF gv) B d 148 96 [(2, rf (B + 143)), (2, rf a), u] [] h) P := fun u w => by
    refine Ends.eq (b148_96 (n := n) (by (repeat' first | assumption | refine LX.setF _ _ ?_ (by decide +kernel) | refine LX.setS ?_ rfl | refine LX.setA ?_ (by first | assumption | omega))) (by first | assumption | omega)) ?_
    exact Ends.sm (K _ _ (Or.inr ⟨w, rfl, rfl⟩))
  refine Ends.eq (b148_0 (n := n) (by (repeat' first | assumption | refine LX.setF _ _ ?_ (by decide +kernel) | refine LX.setS ?_ rfl | refine LX.setA ?_ (by first | assumption | omega))) (by first | assumption | omega)) ?_
  rw [i0, i1, i2, i3, i4, b0, b1, b2, b3, b4, sub32 (by omega) (by omega), sub32 (by omega) (by omega), v155_d, v155_d, v155_d, v155_d, v155_d]
  by_cases ok : runOK n nb = true
  rotate_left
  · have ok' := Bool.eq_false_iff.mpr ok
    have w := of_decide_eq_false ok'
    by_cases c0 : 0 ≤ nb 0 ∧ nb 0 ≤ 23
    · rw [decide_eq_true c0]
      refine Ends.b0 (fun z => absurd z (by decide)) (fun _ => ?_)
      by_cases c1 : 0 ≤ nb 1 ∧ nb 1 ≤ (n : Int) - 1
      · rw [decide_eq_true c1]
        refine Ends.b0 (fun z => absurd z (by decide)) (fun _ => ?_)
        by_cases c2 : 0 ≤ nb 2 ∧ nb 2 ≤ (n : Int) - 1
        · rw [decide_eq_true c2]
          refine Ends.b0 (fun z => absurd z (by decide)) (fun _ => ?_)
          by_cases c3 : 0 ≤ nb 3 ∧ nb 3 ≤ (n : Int) - 1
          · rw [decide_eq_true c3]
            refine Ends.b0 (fun z => absurd z (by decide)) (fun _ => ?_)
            rw [decide_eq_false (fun c4 => w ⟨c0, c1, c2, c3, c4⟩)]
            exact Ends.b1 (fun z => absurd rfl z) (fun _ => bad _ ok')
          · rw [decide_eq_false c3]
            exact Ends.b0 (fun _ => bad _ ok') (fun z => absurd rfl z)
        · rw [decide_eq_false c2]
          exact Ends.b0 (fun _ => bad _ ok') (fun z => absurd rfl z)
      · rw [decide_eq_false c1]
        exact Ends.b0 (fun _ => bad _ ok') (fun z => absurd rfl z)
    · rw [decide_eq_false c0]
      exact Ends.b0 (fun _ => bad _ ok') (fun z => absurd rfl z)
  obtain ⟨c0, c1, c2, c3, c4⟩ := of_decide_eq_true ok
  rw [decide_eq_true c0, decide_eq_true c1, decide_eq_true c2, decide_eq_true c3, decide_eq_true c4]
  refine Ends.b0 (fun z => absurd z (by decide)) (fun _ => Ends.b0 (fun z => absurd z (by decide)) (fun _ => Ends.b0 (fun z => absurd z (by decide)) (fun _ => Ends.b0 (fun z => absurd z (by decide)) (fun _ => Ends.b1 (fun _ => ?_) (fun z => absurd z (by decide))))))
  obtain ⟨t, et⟩ : ∃ t : Nat, nb 0 = (t : Int) := ⟨(nb 0).toNat, by omega⟩
  obtain ⟨z, ez⟩ : ∃ t : Nat, nb 1 = (t : Int) := ⟨(nb 1).toNat, by omega⟩
  obtain ⟨y, ey⟩ : ∃ t : Nat, nb 2 = (t : Int) := ⟨(nb 2).toNat, by omega⟩
  obtain ⟨x, ex⟩ : ∃ t : Nat, nb 3 = (t : Int) := ⟨(nb 3).toNat, by omega⟩
  obtain ⟨m, em⟩ : ∃ t : Nat, nb 4 = (t : Int) := ⟨(nb 4).toNat, by omega⟩
  have key : ∀ (c i : Nat) (q : AH), i + c = m → LX B n q → Agr (fun c _ => c = a) h q → SG n q a (fun g => S g || decide (gSo g = t ∧ gZ n g = z ∧ gY n g = y ∧ x ≤ gX n g ∧ gX n g < x + i)) → Ends (ev PP (gsF gv) B d 148 100 [(2, rf (B + 143)), (2, rf a), (0, (i : Int))] [] q) P := by
    intro c
    induction c with
    | zero =>
      intro i q hi lq gq sq
      have hi' : i = m := by omega
      subst hi'
      refine Ends.eq (b148_100 (n := n) (by (repeat' first | assumption | refine LX.setF _ _ ?_ (by decide +kernel) | refine LX.setS ?_ rfl | refine LX.setA ?_ (by first | assumption | omega))) (by first | assumption | omega)) ?_
      rw [i4, gq.at _ _ (by omega), b4, em]
      refine Ends.b3 (fun _ => Ends.sm (K _ _ (Or.inl ⟨ok, rfl, gq, sq.congr hn0 (fun g hg => ?_)⟩))) (fun z => by omega)
      show (S g || _) = (S g || runG n nb g)
      congr 1
      unfold runG
      rw [decide_eq_decide, et, ez, ey, ex, em]
      omega
    | succ c ih =>
      intro i q hi lq gq sq
      refine Ends.eq (b148_100 (n := n) (by (repeat' first | assumption | refine LX.setF _ _ ?_ (by decide +kernel) | refine LX.setS ?_ rfl | refine LX.setA ?_ (by first | assumption | omega))) (by first | assumption | omega)) ?_
      rw [i0, i1, i2, i3, i4, gq.at _ _ (by omega), gq.at _ _ (by omega), gq.at _ _ (by omega), gq.at _ _ (by omega), gq.at _ _ (by omega), b0, b1, b2, b3, b4, et, ez, ey, ex, em, addNN (by omega)]
      refine Ends.b3 (fun z => by omega) (fun _ => ?_)
      refine Ends.cv lq (by decide +kernel) (c_putG (t := t) (x := x + i) (y := y) (z := z) lq (by omega) hn0 hn sq (by omega) (by omega) (by omega) (by omega) (by omega)) (fun q2 l2 _ _ _ ⟨f2, s2⟩ => ?_)
      refine Ends.eq (b148_144 (n := n) (by (repeat' first | assumption | refine LX.setF _ _ ?_ (by decide +kernel) | refine LX.setS ?_ rfl | refine LX.setA ?_ (by first | assumption | omega))) (by first | assumption | omega)) ?_
      rw [w_succ (by omega)]
      refine ih (i + 1) q2 (by omega) l2 (gq.tr f2.agr (fun c k w => w)) (s2.congr hn0 (fun g hg => ?_))
      obtain ⟨_, g1, g2, g3, g4⟩ := g_lt hg
      have eg : g = gI n (x + i) y z t ↔ gX n g = x + i ∧ gY n g = y ∧ gZ n g = z ∧ gSo g = t := by
        conv => lhs; lhs; rw [← gI_g (n := n) (g := g)]
        exact gI_inj g1 g2 g4 (by omega) (by omega) (by omega)
      show ((S g || decide (gSo g = t ∧ gZ n g = z ∧ gY n g = y ∧ x ≤ gX n g ∧ gX n g < x + i)) || decide (g = gI n (x + i) y z t)) = (S g || decide (gSo g = t ∧ gZ n g = z ∧ gY n g = y ∧ x ≤ gX n g ∧ gX n g < x + (i + 1)))
      rw [Bool.or_assoc]
      congr 1
      rw [← Bool.decide_or, decide_eq_decide, eg]
      omega
  exact key m 0 h (by omega) l Agr.rf (sa.congr hn0 (fun g _ => by
    show S g = (S g || decide (gSo g = t ∧ gZ n g = z ∧ gY n g = y ∧ x ≤ gX n g ∧ gX n g < x + 0))
    rw [decide_eq_false (by omega), Bool.or_false]))
/-- moved -/
def mvG (n : Nat) (S : Nat → Bool) (dx dy dz : Int) (g : Nat) : Bool := mvd n (onK n (fun t z y x => S (gI n x y z t))) dx dy dz (gSo g) (gZ n g) (gY n g) (gX n g)
theorem c_move144 (l : LX B n h) (hd : 12 ≤ d) (hn0 : 0 < n) (hn : n ≤ 52) (b : NbC B h 3 nb) (sa : SG n h a S) (ha : B + 246 ≤ a) (e9 : hv h (B + 143) 9 = rf sp) (ks : hk h sp = (3, 24 * n * n)) (hs : B + 246 ≤ sp) (hne : sp ≠ a) (nbb : ∀ k, k < 3 → -200 ≤ nb k ∧ nb k ≤ 200) :
    Vt 0 (cll PP (ev PP (gsF gv) B) d 144 [(2, rf (B + 143)), (2, rf a)] h) (fun v h' => v = 1 ∧ Agr (fun c _ => c = a ∨ c = sp) h h' ∧ SG n h' a (mvG n S (nb 0) (nb 1) (nb 2))) := by
  refine Vt.inq (D := 11) hd (Nat.le_of_ble_eq_true rfl) rfl (fun d hd P K => ?_)
  have n0 := nbb 0 (by decide)
  have n1 := nbb 1 (by decide)
  have n2 := nbb 2 (by decide)
  have i0 : Int.toNat (0 : Int) = 0 := rfl
  have i1 : Int.toNat (1 : Int) = 1 := rfl
  have i2 : Int.toNat (2 : Int) = 2 := rfl
  refine Ends.eq (b144_0 (n := n) (by (repeat' first | assumption | refine LX.setF _ _ ?_ (by decide +kernel) | refine LX.setS ?_ rfl | refine LX.setA ?_ (by first | assumption | omega))) (by first | assumption | omega)) ?_
  rw [e9]
  refine Ends.cv l (by decide +kernel) (c_copy l (by omega) sa ks (by omega)) (fun h1 l1 _ _ _ ⟨f1, s1⟩ => ?_)
  have g1 := f1.agr
  refine Ends.eq (b144_12 (n := n) (by (repeat' first | assumption | refine LX.setF _ _ ?_ (by decide +kernel) | refine LX.setS ?_ rfl | refine LX.setA ?_ (by first | assumption | omega))) (by first | assumption | omega)) ?_
  refine Ends.cv l1 (by decide +kernel) (c_clear (a := a) l1 (by omega) hn (by rw [g1.hk]; exact sa.1) (by omega)) (fun h2 l2 _ _ _ ⟨f2, s2⟩ => ?_)
  have g2 := f2.fr.agr
  refine Ends.eq (b144_20 (n := n) (by (repeat' first | assumption | refine LX.setF _ _ ?_ (by decide +kernel) | refine LX.setS ?_ rfl | refine LX.setA ?_ (by first | assumption | omega))) (by first | assumption | omega)) ?_
  rw [i0, i1, i2, g2.at _ _ (show ¬ B + 143 = a by omega), g1.at _ _ (show ¬ B + 143 = sp by omega), e9, g2.at _ _ (show ¬ B + 147 = a by omega), g1.at _ _ (show ¬ B + 147 = sp by omega), g2.at _ _ (show ¬ B + 147 = a by omega), g1.at _ _ (show ¬ B + 147 = sp by omega), g2.at _ _ (show ¬ B + 147 = a by omega), g1.at _ _ (show ¬ B + 147 = sp by omega), b 0 (by decide), b 1 (by decide), b 2 (by decide)]
  have s1' : SG n h2 sp S := SG.agr (S := S) s1 g2 (fun _ z => hne z)
  refine Ends.cv l2 (by decide +kernel) (c_uniteMoved l2 (by omega) hn0 hn s2 s1' hne (by omega) (dx := nb 0) (dy := nb 1) (dz := nb 2) (by omega) (by omega) (by omega)) (fun h3 l3 _ _ _ ⟨f3, s3⟩ => ?_)
  refine Ends.eq (b144_50 (n := n) (by (repeat' first | assumption | refine LX.setF _ _ ?_ (by decide +kernel) | refine LX.setS ?_ rfl | refine LX.setA ?_ (by first | assumption | omega))) (by first | assumption | omega)) ?_
  refine Ends.sm (K _ _ ⟨rfl, ((g1.sub (fun c k w => Or.inr w)).tr g2 (fun c k w => Or.inl w)).tr f3.agr (fun c k w => Or.inl w), SG.of hn0 s3 (fun t z y x ht hz hy hx => ?_)⟩)
  show (false || onK n _ _ _) = mvG n S (nb 0) (nb 1) (nb 2) (gI n x y z t)
  unfold mvG
  rw [onK_at hz hy, Bool.false_or, gSo_I ht, gZ_I hx hy ht, gY_I hx hy ht, gX_I hx ht]
/-- turned -/
noncomputable def tnG (n w : Nat) (S : Nat → Bool) (g : Nat) : Bool := @decide (∃ g0, g0 < gN n ∧ S g0 = true ∧ tuG n w g0 0 0 0 = (g : Int)) (Classical.propDecidable _)
theorem tnG_iff {w g : Nat} : tnG n w S g = true ↔ ∃ g0, g0 < gN n ∧ S g0 = true ∧ tuG n w g0 0 0 0 = (g : Int) := by unfold tnG; exact @decide_eq_true_iff _ (Classical.propDecidable _)
theorem c_way154 (l : LX B n h) (hd : 18 ≤ d) (hn0 : 0 < n) (hn : n ≤ 52) (m : TbC B h) (b : NbC B h 1 nb) (sa : SG n h a S) (ha : B + 246 ≤ a) (e9 : hv h (B + 143) 9 = rf sp) (ks : hk h sp = (3, 24 * n * n)) (hs : B + 246 ≤ sp) (hne : sp ≠ a) (n0 : 0 ≤ nb 0 ∧ nb 0 ≤ 47) :
    Vt 0 (cll PP (ev PP (gsF gv) B) d 154 [(2, rf (B + 143)), (2, rf a)] h) (fun v h' => v = 1 ∧ Agr (fun c k => c = sp ∨ tuW B a c k) h h' ∧ SG n h' a (tnG n (nb 0).toNat S)) := by
  refine Vt.inq (D := 17) hd (Nat.le_of_ble_eq_true rfl) rfl (fun d hd P K => ?_)
  have i0 : Int.toNat (0 : Int) = 0 := rfl
  obtain ⟨w, ew⟩ : ∃ t : Nat, nb 0 = (t : Int) := ⟨(nb 0).toNat, by omega⟩
  refine Ends.eq (b154_0 (n := n) (by (repeat' first | assumption | refine LX.setF _ _ ?_ (by decide +kernel) | refine LX.setS ?_ rfl | refine LX.setA ?_ (by first | assumption | omega))) (by first | assumption | omega)) ?_
  rw [e9]
  refine Ends.cv l (by decide +kernel) (c_copy l (by omega) sa ks (by omega)) (fun h1 l1 _ _ _ ⟨f1, s1⟩ => ?_)
  have g1 := f1.agr
  refine Ends.eq (b154_12 (n := n) (by (repeat' first | assumption | refine LX.setF _ _ ?_ (by decide +kernel) | refine LX.setS ?_ rfl | refine LX.setA ?_ (by first | assumption | omega))) (by first | assumption | omega)) ?_
  refine Ends.cv l1 (by decide +kernel) (c_clear (a := a) l1 (by omega) hn (by rw [g1.hk]; exact sa.1) (by omega)) (fun h2 l2 _ _ _ ⟨f2, s2⟩ => ?_)
  have g2 := f2.fr.agr
  refine Ends.eq (b154_20 (n := n) (by (repeat' first | assumption | refine LX.setF _ _ ?_ (by decide +kernel) | refine LX.setS ?_ rfl | refine LX.setA ?_ (by first | assumption | omega))) (by first | assumption | omega)) ?_
  rw [i0, g2.at _ _ (show ¬ B + 143 = a by omega), g1.at _ _ (show ¬ B + 143 = sp by omega), e9, g2.at _ _ (show ¬ B + 147 = a by omega), g1.at _ _ (show ¬ B + 147 = sp by omega), b 0 (by decide), ew]
  have s1' : SG n h2 sp S := SG.agr (S := S) s1 g2 (fun _ z => hne z)
  have s2' : SG n h2 a (fun _ => false) := SG.of hn0 s2 (fun _ _ _ _ _ _ _ _ => rfl)
  have m2 : TbC B h2 := (m.fr f1 (fun c _ _ z => by omega)).fr f2.fr (fun c _ _ z => by omega)
  refine Ends.cv l2 (by decide +kernel) (c_turn317 l2 (by omega) hn0 hn m2 s2' s1' (fun z => hne z.symm) (by omega) (Or.inr ha) (Or.inr hs) (w := w) (by omega)) (fun h3 l3 _ _ _ ⟨g3, R, s3, r3⟩ => ?_)
  refine Ends.eq (b154_38 (n := n) (by (repeat' first | assumption | refine LX.setF _ _ ?_ (by decide +kernel) | refine LX.setS ?_ rfl | refine LX.setA ?_ (by first | assumption | omega))) (by first | assumption | omega)) ?_
  refine Ends.sm (K _ _ ⟨rfl, ((g1.sub (fun c k w => Or.inl w)).tr g2 (fun c k w => Or.inr (Or.inl w))).tr g3 (fun c k w => Or.inr w), s3.congr hn0 (fun g hg => ?_)⟩)
  refine Bool.eq_iff_iff.mpr ?_
  rw [r3 g hg, tnG_iff, show (nb 0).toNat = w by omega]
  simp
end DEF1
section DEF2
variable {gv : Nat → Int} {B n d a : Nat} {h : AH} {S : Nat → Bool} {nb : Nat → Int}
/-- the quarters are cleared -/
theorem qcl_done {q : AH} (k148 : hk q (B + 148) = (3, 4 * n)) (lo : ∀ j, j < 4 * n → hv q (B + 148) j = 0) : Qua n q (B + 148) (fun _ _ _ => false) :=
  ⟨k148, fun p v hp hv => by
    have := q_lt (n := n) hp hv
    rw [lo _ this]
    exact ⟨⟨by decide, by decide⟩, fun x hx => by rw [tb_0]; simp⟩⟩
/-- the quarters of a rectangle -/
def bkQ (nb : Nat → Int) (_q v u : Nat) : Bool := decide ((nb 1 ≤ (v : Int) ∧ (v : Int) < nb 4) ∧ nb 0 ≤ (u : Int) ∧ (u : Int) < nb 3)
theorem max0J {a : Int} : v891 0 a = ((a.toNat : Nat) : Int) := by
  unfold v891
  rw [ct2]
  by_cases z : (0 : Int) < a
  · rw [if_pos z]; omega
  · rw [if_neg z]; omega
theorem minI {x y : Int} : v892 x y = if y < x then y else x := by unfold v892; rw [ct4]
theorem maxI {x y : Int} : v891 x y = if x < y then y else x := by unfold v891; rw [ct2]
theorem c_block135 (l : LX B n h) (hd : 12 ≤ d) (hn0 : 0 < n) (hn : n ≤ 52) (m : TbC B h) (b : NbC B h 6 nb) (sa : SG n h a S) (ha : B + 246 ≤ a) (nbb : ∀ k, k < 6 → -200 ≤ nb k ∧ nb k ≤ 200) :
    Vt 0 (cll PP (ev PP (gsF gv) B) d 135 [(2, rf (B + 143)), (2, rf a)] h) (fun v h' => v = 1 ∧ Agr (fun c _ => c = a ∨ c = B + 148) h h' ∧ SG n h' a (fun g => S g || prG n (bkQ nb) 2 (nb 2) (nb 5) g)) := by
  have k148 : hk h (B + 148) = (3, 4 * n) := l.1 148 _ rfl
  refine Vt.inq (D := 11) hd (Nat.le_of_ble_eq_true rfl) rfl (fun d hd P K => ?_)
  have n0 := nbb 0 (by decide)
  have n1 := nbb 1 (by decide)
  have n2 := nbb 2 (by decide)
  have n3 := nbb 3 (by decide)
  have n4 := nbb 4 (by decide)
  have n5 := nbb 5 (by decide)
  have i0 : Int.toNat (0 : Int) = 0 := rfl
  have i1 : Int.toNat (1 : Int) = 1 := rfl
  have i2 : Int.toNat (2 : Int) = 2 := rfl
  have i3 : Int.toNat (3 : Int) = 3 := rfl
  have i4 : Int.toNat (4 : Int) = 4 := rfl
  have i5 : Int.toNat (5 : Int) = 5 := rfl
  -- all filled
  have fin : ∀ (q : AH) (x2 : Int) (u3 u4 : AV), LX B n q → Agr (fun c _ => c = B + 148) h q → Qua n q (B + 148) (bkQ nb) → Ends (aft PP 135 150 153 [(2, rf (B + 143)), (2, rf a), (0, x2), u3, u4] [] (ev PP (gsF gv) B d 135) (cll PP (ev PP (gsF gv) B) d 362 [(2, rf (B + 51)), (2, rf a), (2, rf (B + 148)), (0, (2 : Int)), (0, (nb 2)), (0, (nb 5))] q)) P := fun q x2 u3 u4 lq gq qq => by
    have mq : TbC B q := m.ext l.2.2 gq.ext (fun c k h1 h2 w => by omega)
    refine Ends.cv lq (by decide +kernel) (c_unitePrism (ax := 2) lq (by omega) hn0 hn mq (sa.agr gq (fun _ w => by omega)) qq (by omega) (by omega) (Or.inr ha) (by decide) (fr := nb 2) (to := nb 5) (by omega) (by omega)) (fun h3 l3 _ _ _ ⟨f3, s3⟩ => ?_)
    refine Ends.eq (b135_153 (n := n) (by (repeat' first | assumption | refine LX.setF _ _ ?_ (by decide +kernel) | refine LX.setS ?_ rfl | refine LX.setA ?_ (by first | assumption | omega))) (by first | assumption | omega)) ?_
    exact Ends.sm (K _ _ ⟨rfl, (gq.sub (fun c k w => Or.inr w)).tr f3.agr (fun c k w => Or.inl w), s3⟩)
  -- rows
  have rws : ∀ (c v : Nat) (q : AH) (u3 u4 : AV), v + c = n + 300 → (nb 1).toNat ≤ v → LX B n q → Agr (fun c _ => c = B + 148) h q → Qua n q (B + 148) (fun p y x => bkQ nb p y x && decide (y < v)) → Ends (ev PP (gsF gv) B d 135 36 [(2, rf (B + 143)), (2, rf a), (0, (v : Int)), u3, u4] [] q) P := by
    intro c
    induction c with
    | zero =>
      intro v q u3 u4 hv0 hv1 lq gq qq
      refine Ends.eq (b135_36 (n := n) (by (repeat' first | assumption | refine LX.setF _ _ ?_ (by decide +kernel) | refine LX.setS ?_ rfl | refine LX.setA ?_ (by first | assumption | omega))) (by first | assumption | omega)) ?_
      rw [i2, i4, i5, gq.at _ _ (show ¬ B + 147 = B + 148 by omega), gq.at _ _ (show ¬ B + 147 = B + 148 by omega), gq.at _ _ (show ¬ B + 147 = B + 148 by omega), b 2 (by decide), b 4 (by decide), b 5 (by decide), minI]
      refine Ends.b3 (fun _ => fin q _ _ _ lq gq (qq.congr (fun p y x _ hy _ => by rw [decide_eq_true (by omega), Bool.and_true]))) (fun z => by split at z <;> omega)
    | succ c ih =>
      intro v q u3 u4 hv0 hv1 lq gq qq
      refine Ends.eq (b135_36 (n := n) (by (repeat' first | assumption | refine LX.setF _ _ ?_ (by decide +kernel) | refine LX.setS ?_ rfl | refine LX.setA ?_ (by first | assumption | omega))) (by first | assumption | omega)) ?_
      rw [i0, i2, i4, i5, gq.at _ _ (show ¬ B + 147 = B + 148 by omega), gq.at _ _ (show ¬ B + 147 = B + 148 by omega), gq.at _ _ (show ¬ B + 147 = B + 148 by omega), gq.at _ _ (show ¬ B + 147 = B + 148 by omega), b 0 (by decide), b 2 (by decide), b 4 (by decide), b 5 (by decide), minI, max0J]
      refine Ends.b3 (fun z => fin q _ _ _ lq gq (qq.congr (fun p y x _ hy _ => ?_))) (fun z => ?_)
      · unfold bkQ
        by_cases w : y < v
        · rw [decide_eq_true w, Bool.and_true]
        · rw [decide_eq_false w, Bool.and_false, decide_eq_false (by split at z <;> omega)]
      have hvn : v < n ∧ (v : Int) < nb 4 := by split at z <;> omega
      have cls : ∀ (c2 u : Nat) (q2 : AH) (u4 : AV), u + c2 = n + 300 → (nb 0).toNat ≤ u → LX B n q2 → Agr (fun c _ => c = B + 148) h q2 → Qua n q2 (B + 148) (fun p y x => bkQ nb p y x && decide (y < v ∨ (y = v ∧ x < u))) → Ends (ev PP (gsF gv) B d 135 64 [(2, rf (B + 143)), (2, rf a), (0, (v : Int)), (0, (u : Int)), u4] [] q2) P := by
        intro c2
        have nxt : ∀ (q2 : AH) (u : Nat) (u4 : AV), LX B n q2 → Agr (fun c _ => c = B + 148) h q2 → Qua n q2 (B + 148) (fun p y x => bkQ nb p y x && decide (y < v ∨ (y = v ∧ x < u))) → ((n : Int) ≤ u ∨ nb 3 ≤ (u : Int)) → Ends (ev PP (gsF gv) B d 135 36 [(2, rf (B + 143)), (2, rf a), (0, w32 ((v : Int) + 1)), (0, (u : Int)), u4] [] q2) P := fun q2 u u4 l2 g2 qq2 hu => by
          rw [w_succ (by omega)]
          refine ih (v + 1) q2 _ _ (by omega) (by omega) l2 g2 (qq2.congr (fun p y x _ hy hx => ?_))
          unfold bkQ
          rw [← Bool.decide_and, ← Bool.decide_and, decide_eq_decide]
          omega
        induction c2 with
        | zero =>
          intro u q2 u4 hu hu1 l2 g2 qq2
          refine Ends.eq (b135_64 (n := n) (by (repeat' first | assumption | refine LX.setF _ _ ?_ (by decide +kernel) | refine LX.setS ?_ rfl | refine LX.setA ?_ (by first | assumption | omega))) (by first | assumption | omega)) ?_
          rw [i3, g2.at _ _ (show ¬ B + 147 = B + 148 by omega), b 3 (by decide), minI]
          exact Ends.b3 (fun _ => nxt q2 u _ l2 g2 qq2 (Or.inl (by omega))) (fun z => by split at z <;> omega)
        | succ c2 ihu =>
          intro u q2 u4 hu hu1 l2 g2 qq2
          refine Ends.eq (b135_64 (n := n) (by (repeat' first | assumption | refine LX.setF _ _ ?_ (by decide +kernel) | refine LX.setS ?_ rfl | refine LX.setA ?_ (by first | assumption | omega))) (by first | assumption | omega)) ?_
          rw [i3, g2.at _ _ (show ¬ B + 147 = B + 148 by omega), b 3 (by decide), minI]
          refine Ends.b3 (fun z => nxt q2 u _ l2 g2 qq2 (by split at z <;> omega)) (fun z => ?_)
          have hun : u < n ∧ (u : Int) < nb 3 := by split at z <;> omega
          have qls : ∀ (c3 p : Nat) (q3 : AH), p + c3 = 4 → LX B n q3 → Agr (fun c _ => c = B + 148) h q3 → Qua n q3 (B + 148) (fun p' y x => bkQ nb p' y x && decide (y < v ∨ (y = v ∧ (x < u ∨ (x = u ∧ p' < p))))) → Ends (ev PP (gsF gv) B d 135 84 [(2, rf (B + 143)), (2, rf a), (0, (v : Int)), (0, (u : Int)), (0, (p : Int))] [] q3) P := by
            intro c3
            induction c3 with
            | zero =>
              intro p q3 hp l3 g3 qq3
              obtain rfl : p = 4 := by omega
              refine Ends.eq (b135_84 (n := n) (by (repeat' first | assumption | refine LX.setF _ _ ?_ (by decide +kernel) | refine LX.setS ?_ rfl | refine LX.setA ?_ (by first | assumption | omega))) (by first | assumption | omega)) ?_
              rw [w_succ (by omega)]
              refine Ends.b3 (fun _ => ihu (u + 1) q3 _ (by omega) (by omega) l3 g3 (qq3.congr (fun p' y x hp' hy hx => ?_))) (fun z => absurd z (by decide))
              congr 1
              rw [decide_eq_decide]
              omega
            | succ c3 ihp =>
              intro p q3 hp l3 g3 qq3
              have hp4 : p < 4 := by omega
              have ql := q_lt (n := n) hp4 hvn.1
              have pn : p * n ≤ 156 := by
                have := Nat.mul_le_mul (show p ≤ 3 by omega) hn
                omega
              refine Ends.eq (b135_84 (n := n) (by (repeat' first | assumption | refine LX.setF _ _ ?_ (by decide +kernel) | refine LX.setS ?_ rfl | refine LX.setA ?_ (by first | assumption | omega))) (by first | assumption | omega)) ?_
              rw [show bop32 104 (p : Int) (n : Int) = ((p * n : Nat) : Int) from mulNN (by omega), addNN (by omega), tn, an1]
              refine Ends.b3 (fun z => by omega) (fun _ => Ends.g ⟨by omega, by omega⟩ ?_)
              rw [w_succ (by omega)]
              refine ihp (p + 1) _ (by omega) (LX.setA (t := 1) l3 (by rw [g3.hk, k148])) (g3.set rfl) ((qq3.put hn hp4 hvn.1 hun.1).congr (fun p' y x hp' hy hx => ?_))
              unfold bkQ
              rw [← Bool.decide_and, ← Bool.decide_and, ← Bool.decide_or, decide_eq_decide]
              omega
          exact qls 4 0 q2 rfl l2 g2 (qq2.congr (fun p y x _ _ _ => by congr 1; rw [decide_eq_decide]; omega))
      refine cls (n + 300 - (nb 0).toNat) (nb 0).toNat q _ (by omega) (Nat.le_refl _) lq gq (qq.congr (fun p y x _ _ _ => ?_))
      unfold bkQ
      rw [← Bool.decide_and, ← Bool.decide_and, decide_eq_decide]
      omega
  have clr : ∀ (c k : Nat) (q : AH) (u3 u4 : AV), k + c = 4 * n → LX B n q → Agr (fun c _ => c = B + 148) h q → (∀ j, j < k → hv q (B + 148) j = 0) → Ends (ev PP (gsF gv) B d 135 2 [(2, rf (B + 143)), (2, rf a), (0, (k : Int)), u3, u4] [] q) P := by
    intro c
    induction c with
    | zero =>
      intro k q u3 u4 hk lq gq lo
      have hk' : k = 4 * n := by omega
      refine Ends.eq (b135_2 (n := n) (by (repeat' first | assumption | refine LX.setF _ _ ?_ (by decide +kernel) | refine LX.setS ?_ rfl | refine LX.setA ?_ (by first | assumption | omega))) (by first | assumption | omega)) ?_
      rw [show bop32 104 (4 : Int) (n : Int) = ((4 * n : Nat) : Int) from mulNN (x := 4) (by omega), i1, gq.at _ _ (show ¬ B + 147 = B + 148 by omega), b 1 (by decide), max0J]
      refine Ends.b3 (fun _ => rws (n + 300 - (nb 1).toNat) (nb 1).toNat q _ _ (by omega) (Nat.le_refl _) lq gq ((qcl_done (by rw [gq.hk]; exact k148) (fun j hj => lo j (by omega))).congr (fun p y x _ _ _ => ?_))) (fun z => by omega)
      unfold bkQ
      rw [← Bool.decide_and]
      exact (decide_eq_false (by omega)).symm
    | succ c ih =>
      intro k q u3 u4 hk lq gq lo
      refine Ends.eq (b135_2 (n := n) (by (repeat' first | assumption | refine LX.setF _ _ ?_ (by decide +kernel) | refine LX.setS ?_ rfl | refine LX.setA ?_ (by first | assumption | omega))) (by first | assumption | omega)) ?_
      rw [show bop32 104 (4 : Int) (n : Int) = ((4 * n : Nat) : Int) from mulNN (x := 4) (by omega), w_succ (by omega), tn, an1]
      refine Ends.b3 (fun z => by omega) (fun _ => Ends.g ⟨by omega, by omega⟩ ?_)
      refine ih (k + 1) _ _ _ (by omega) (LX.setS lq rfl) (gq.set rfl) (fun j hj => ?_)
      by_cases e : j = k
      · rw [e]; exact hv_set_at ..
      · rw [hv_set_ne (by omega)]; exact lo j (by omega)
  refine Ends.eq (b135_0 (n := n) (by (repeat' first | assumption | refine LX.setF _ _ ?_ (by decide +kernel) | refine LX.setS ?_ rfl | refine LX.setA ?_ (by first | assumption | omega))) (by first | assumption | omega)) ?_
  exact clr (4 * n) 0 h _ _ (by omega) l Agr.rf (fun j hj => absurd hj (by omega))
def holeOK (nb : Nat → Int) : Bool := decide ((0 ≤ nb 0 ∧ nb 0 ≤ 2) ∧ 1 ≤ nb 5 ∧ nb 5 ≤ 64)
def holG (n : Nat) (nb : Nat → Int) (g : Nat) : Bool := prG n (dsQ (nb 5).toNat (nb 1) (nb 2)) (nb 0).toNat (if nb 4 < nb 3 then nb 4 else nb 3) (if nb 3 < nb 4 then nb 4 else nb 3) g
theorem c_hole141 (l : LX B n h) (hd : 12 ≤ d) (hn0 : 0 < n) (hn : n ≤ 52) (m : TbC B h) (b : NbC B h 6 nb) (sa : SG n h a S) (ha : B + 246 ≤ a) (nbb : ∀ k, k < 6 → -200 ≤ nb k ∧ nb k ≤ 200) :
    Vt 0 (cll PP (ev PP (gsF gv) B) d 141 [(2, rf (B + 143)), (2, rf a)] h) (fun v h' => (holeOK nb = true ∧ v = 1 ∧ Agr (fun c _ => c = a ∨ c = B + 148) h h' ∧ SG n h' a (fun g => S g || holG n nb g)) ∨ (holeOK nb = false ∧ v = 0 ∧ h' = h)) := by
  have k148 : hk h (B + 148) = (3, 4 * n) := l.1 148 _ rfl
  refine Vt.inq (D := 11) hd (Nat.le_of_ble_eq_true rfl) rfl (fun d hd P K => ?_)
  have n0 := nbb 0 (by decide)
  have n1 := nbb 1 (by decide)
  have n2 := nbb 2 (by decide)
  have n3 := nbb 3 (by decide)
  have n4 := nbb 4 (by decide)
  have n5 := nbb 5 (by decide)
  have i0 : Int.toNat (0 : Int) = 0 := rfl
  have i1 : Int.toNat (1 : Int) = 1 := rfl
  have i2 : Int.toNat (2 : Int) = 2 := rfl
  have i3 : Int.toNat (3 : Int) = 3 := rfl
  have i4 : Int.toNat (4 : Int) = 4 := rfl
  have i5 : Int.toNat (5 : Int) = 5 := rfl
  have bad : ∀ u : AV, holeOK nb = false → Ends (ev PP (gsF gv) B d 141 29 [(2, rf (B + 143)), (2, rf a), u] [] h) P := fun u w => by
    refine Ends.eq (b141_29 (n := n) (by (repeat' first | assumption | refine LX.setF _ _ ?_ (by decide +kernel) | refine LX.setS ?_ rfl | refine LX.setA ?_ (by first | assumption | omega))) (by first | assumption | omega)) ?_
    exact Ends.sm (K _ _ (Or.inr ⟨w, rfl, rfl⟩))
  refine Ends.eq (b141_0 (n := n) (by (repeat' first | assumption | refine LX.setF _ _ ?_ (by decide +kernel) | refine LX.setS ?_ rfl | refine LX.setA ?_ (by first | assumption | omega))) (by first | assumption | omega)) ?_
  rw [i0, i5, b 0 (by decide), b 5 (by decide), v155_d, v155_d]
  by_cases c0 : 0 ≤ nb 0 ∧ nb 0 ≤ 2
  rotate_left
  · rw [decide_eq_false c0]
    exact Ends.b0 (fun _ => bad _ (decide_eq_false (fun w => c0 w.1))) (fun z => absurd rfl z)
  rw [decide_eq_true c0]
  refine Ends.b0 (fun z => absurd z (by decide)) (fun _ => ?_)
  by_cases c5 : 1 ≤ nb 5 ∧ nb 5 ≤ 64
  rotate_left
  · rw [decide_eq_false c5]
    exact Ends.b1 (fun z => absurd rfl z) (fun _ => bad _ (decide_eq_false (fun w => c5 w.2)))
  rw [decide_eq_true c5]
  refine Ends.b1 (fun _ => ?_) (fun z => absurd z (by decide))
  have ok : holeOK nb = true := decide_eq_true ⟨c0, c5⟩
  obtain ⟨r, er⟩ : ∃ t : Nat, nb 5 = (t : Int) := ⟨(nb 5).toNat, by omega⟩
  obtain ⟨ax, eax⟩ : ∃ t : Nat, nb 0 = (t : Int) := ⟨(nb 0).toNat, by omega⟩
  have nq : ∀ {q : AH} (k : Nat), k < 6 → Agr (fun c _ => c = B + 148) h q → hv q (B + 147) k = nb k := fun k hk g => by rw [g.at _ _ (by omega)]; exact b k hk
  have clr : ∀ (c k : Nat) (q : AH), k + c = 4 * n → LX B n q → Agr (fun c _ => c = B + 148) h q → (∀ j, j < k → hv q (B + 148) j = 0) → Ends (ev PP (gsF gv) B d 141 33 [(2, rf (B + 143)), (2, rf a), (0, (k : Int))] [] q) P := by
    intro c
    induction c with
    | zero =>
      intro k q hk lq gq lo
      have hk' : k = 4 * n := by omega
      refine Ends.eq (b141_33 (n := n) (by (repeat' first | assumption | refine LX.setF _ _ ?_ (by decide +kernel) | refine LX.setS ?_ rfl | refine LX.setA ?_ (by first | assumption | omega))) (by first | assumption | omega)) ?_
      rw [show bop32 104 (4 : Int) (n : Int) = ((4 * n : Nat) : Int) from mulNN (x := 4) (by omega), i1, i2, i5, nq 1 (by decide) gq, nq 2 (by decide) gq, nq 5 (by decide) gq, er]
      refine Ends.b3 (fun _ => ?_) (fun z => by omega)
      refine Ends.cv lq (by decide +kernel) (c_disc397 (b := B + 148) lq (by omega) hn (by omega) (by omega) (by omega) (qcl_done (by rw [gq.hk]; exact k148) (fun j hj => lo j (by omega))) (by omega)) (fun q1 l1 _ _ _ ⟨g1, qq⟩ => ?_)
      have G1 := gq.tr g1 (fun c k w => w)
      have mq : TbC B q1 := m.ext l.2.2 G1.ext (fun c k h1 h2 w => by omega)
      refine Ends.eq (b141_88 (n := n) (by (repeat' first | assumption | refine LX.setF _ _ ?_ (by decide +kernel) | refine LX.setS ?_ rfl | refine LX.setA ?_ (by first | assumption | omega))) (by first | assumption | omega)) ?_
      rw [i0, i3, i4, nq 0 (by decide) G1, nq 3 (by decide) G1, nq 4 (by decide) G1, minI, maxI, eax]
      refine Ends.cv l1 (by decide +kernel) (c_unitePrism (ax := ax) l1 (by omega) hn0 hn mq (sa.agr G1 (fun _ w => by omega)) qq (by omega) (by omega) (Or.inr ha) (by omega) (by split <;> omega) (by split <;> omega)) (fun h3 l3 _ _ _ ⟨f3, s3⟩ => ?_)
      refine Ends.eq (b141_136 (n := n) (by (repeat' first | assumption | refine LX.setF _ _ ?_ (by decide +kernel) | refine LX.setS ?_ rfl | refine LX.setA ?_ (by first | assumption | omega))) (by first | assumption | omega)) ?_
      refine Ends.sm (K _ _ (Or.inl ⟨ok, rfl, (G1.sub (fun c k w => Or.inr w)).tr f3.agr (fun c k w => Or.inl w), s3.congr hn0 (fun g hg => ?_)⟩))
      show (S g || _) = (S g || holG n nb g)
      congr 1
      unfold holG
      rw [er, eax]
      show prG n (fun q v u => false || dsQ r (nb 1) (nb 2) q v u) ax _ _ g = _
      simp only [Bool.false_or]
      rfl
    | succ c ih =>
      intro k q hk lq gq lo
      refine Ends.eq (b141_33 (n := n) (by (repeat' first | assumption | refine LX.setF _ _ ?_ (by decide +kernel) | refine LX.setS ?_ rfl | refine LX.setA ?_ (by first | assumption | omega))) (by first | assumption | omega)) ?_
      rw [show bop32 104 (4 : Int) (n : Int) = ((4 * n : Nat) : Int) from mulNN (x := 4) (by omega), w_succ (by omega), tn, an1]
      refine Ends.b3 (fun z => by omega) (fun _ => Ends.g ⟨by omega, by omega⟩ ?_)
      refine ih (k + 1) _ (by omega) (LX.setS lq rfl) (gq.set rfl) (fun j hj => ?_)
      by_cases e : j = k
      · rw [e]; exact hv_set_at ..
      · rw [hv_set_ne (by omega)]; exact lo j (by omega)
  exact clr (4 * n) 0 h (by omega) l Agr.rf (fun j hj => absurd hj (by omega))
end DEF2
