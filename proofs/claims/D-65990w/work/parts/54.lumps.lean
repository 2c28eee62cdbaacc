/-! L3: pieces that hang together; Flood.lumps -/
section NCS
variable {n : Nat} {W U : Nat → Bool}
def Rch (n : Nat) (W : Nat → Bool) (a b : Nat) : Prop := ∀ P : Nat → Prop, P a → (∀ g g' f, g < gN n → g' < gN n → f < 4 → P g → nbr n g f = (g' : Int) → W g' = true → P g') → P b
theorem Rch.rf {a : Nat} : Rch n W a a := fun _ h _ => h
theorem Rch.tr {a b c : Nat} (h1 : Rch n W a b) (h2 : Rch n W b c) : Rch n W a c := fun P p s => h2 P (h1 P p s) s
theorem Rch.st {a g g' f : Nat} (h : Rch n W a g) (hg : g < gN n) (hg' : g' < gN n) (hf : f < 4) (e : nbr n g f = (g' : Int)) (w : W g' = true) : Rch n W a g' := fun P p s => s g g' f hg hg' hf (h P p s) e w
theorem nxt_back : ∀ t : Fin 24, (∀ f : Fin 4, (f : Nat) ≠ 0 → ∃ f' : Fin 4, (f' : Nat) ≠ 0 ∧ nxt (nxt t f) f' = t) ∧ nxt (nxt t 0) 0 = t ∧ (∀ a : Fin 3, stpC (nxt t 0) a = - stpC t a) := by decide +kernel
theorem nbr_sym {g g' f : Nat} (hg : g < gN n) (hf : f < 4) (e : nbr n g f = (g' : Int)) : ∃ f', f' < 4 ∧ nbr n g' f' = (g : Int) := by
  obtain ⟨-, hx, hy, hz, ht⟩ := g_lt hg
  obtain ⟨b1, b2, b3⟩ := nxt_back ⟨gSo g, ht⟩
  by_cases hf0 : f = 0
  · subst hf0
    refine ⟨0, by decide, ?_⟩
    have hnx : nxt (gSo g) 0 < 24 := nxt_lt ⟨gSo g, ht⟩ 0
    have hin : ¬ ((gX n g : Int) + stpC (gSo g) 0 < 0 ∨ (gY n g : Int) + stpC (gSo g) 1 < 0 ∨ (gZ n g : Int) + stpC (gSo g) 2 < 0 ∨ (n : Int) ≤ gX n g + stpC (gSo g) 0 ∨ (n : Int) ≤ gY n g + stpC (gSo g) 1 ∨ (n : Int) ≤ gZ n g + stpC (gSo g) 2) := fun q => by
      rw [nbr0_out q] at e; omega
    obtain ⟨x', ex⟩ : ∃ x' : Nat, (x' : Int) = gX n g + stpC (gSo g) 0 := ⟨((gX n g : Int) + stpC (gSo g) 0).toNat, by omega⟩
    obtain ⟨y', ey⟩ : ∃ x' : Nat, (x' : Int) = gY n g + stpC (gSo g) 1 := ⟨((gY n g : Int) + stpC (gSo g) 1).toNat, by omega⟩
    obtain ⟨z', ez⟩ : ∃ x' : Nat, (x' : Int) = gZ n g + stpC (gSo g) 2 := ⟨((gZ n g : Int) + stpC (gSo g) 2).toNat, by omega⟩
    have hx' : x' < n := by omega
    have hy' : y' < n := by omega
    have hz' : z' < n := by omega
    rw [nbr0_in ex ey ez hx' hy' hz'] at e
    have e' : gI n x' y' z' (nxt (gSo g) 0) = g' := by omega
    have s0 := b3 0
    have s1 := b3 1
    have s2 := b3 2
    dsimp only at s0 s1 s2 b2
    rw [← e', nbr0_in (x' := gX n g) (y' := gY n g) (z' := gZ n g) (by rw [gX_I hx' hnx, gSo_I hnx, show stpC (nxt (gSo g) 0) 0 = _ from s0, ex]; simp; omega) (by rw [gY_I hx' hy' hnx, gSo_I hnx, show stpC (nxt (gSo g) 0) 1 = _ from s1, ey]; simp; omega) (by rw [gZ_I hx' hy' hnx, gSo_I hnx, show stpC (nxt (gSo g) 0) 2 = _ from s2, ez]; simp; omega) hx hy hz, gSo_I hnx, b2, gI_g]
  · obtain ⟨f', h1, h2⟩ := b1 ⟨f, hf⟩ hf0
    have hnx : nxt (gSo g) f < 24 := nxt_lt ⟨gSo g, ht⟩ ⟨f, hf⟩
    refine ⟨f', f'.2, ?_⟩
    unfold nbr at e
    rw [if_neg hf0] at e
    have e' : gI n (gX n g) (gY n g) (gZ n g) (nxt (gSo g) f) = g' := by omega
    unfold nbr
    dsimp only at h2
    rw [if_neg h1, ← e', gX_I hx hnx, gY_I hx hy hnx, gZ_I hx hy hnx, gSo_I hnx, h2, gI_g]
theorem Rch.inW {a b : Nat} (h : Rch n W a b) (ha : a < gN n) (hW : W a = true) : b < gN n ∧ W b = true := by
  have := h (fun x => x < gN n ∧ W x = true) ⟨ha, hW⟩ (fun g g' f _ h2 _ _ _ w => ⟨h2, w⟩)
  exact this
theorem Rch.sym {a b : Nat} (h : Rch n W a b) (ha : a < gN n) (hW : W a = true) : Rch n W b a := by
  have := h (fun x => x < gN n ∧ W x = true ∧ Rch n W x a) ⟨ha, hW, Rch.rf⟩ (fun g g' f h1 h2 h3 ⟨_, w1, r1⟩ e w => by
    obtain ⟨f', q1, q2⟩ := nbr_sym h1 h3 e
    exact ⟨h2, w, (Rch.rf.st h2 h1 q1 q2 w1).tr r1⟩)
  exact this.2.2
/-- U (a part of W) has m pieces -/
def NC (n : Nat) (W U : Nat → Bool) (m : Nat) : Prop := ∃ rep : Nat → Nat, (∀ i, i < m → rep i < gN n ∧ U (rep i) = true ∧ W (rep i) = true) ∧ (∀ i j, i < m → j < m → Rch n W (rep i) (rep j) → i = j) ∧ ∀ g, g < gN n → U g = true → ∃ i, i < m ∧ Rch n W (rep i) g
theorem inj_le : ∀ (m k : Nat) (φ : Nat → Nat), (∀ i, i < m → φ i < k) → (∀ i j, i < m → j < m → φ i = φ j → i = j) → m ≤ k
  | 0, _, _, _, _ => Nat.zero_le _
  | m + 1, 0, φ, h1, _ => absurd (h1 0 (by omega)) (by omega)
  | m + 1, k + 1, φ, h1, h2 => by
    have := inj_le m k (fun i => if φ i = k then φ m else φ i) (fun i hi => by
      have a1 := h1 i (by omega)
      have a2 := h1 m (by omega)
      have a3 : φ i ≠ φ m := fun e => by have := h2 i m (by omega) (by omega) e; omega
      split <;> omega) (fun i j hi hj e => by
      have a3 : φ i ≠ φ m := fun e => by have := h2 i m (by omega) (by omega) e; omega
      have a4 : φ j ≠ φ m := fun e => by have := h2 j m (by omega) (by omega) e; omega
      split at e <;> split at e
      · exact h2 i j (by omega) (by omega) (by omega)
      · exact absurd e.symm a4
      · exact absurd e a3
      · exact h2 i j (by omega) (by omega) e)
    omega
theorem NC.le {m k : Nat} (a : NC n W U m) (b : NC n W U k) : m ≤ k := by
  obtain ⟨r, a1, a2, a3⟩ := a
  obtain ⟨s, b1, b2, b3⟩ := b
  have ex : ∀ i, ∃ j, i < m → j < k ∧ Rch n W (s j) (r i) := fun i => by
    by_cases hi : i < m
    · obtain ⟨j, h1, h2⟩ := b3 (r i) (a1 i hi).1 (a1 i hi).2.1
      exact ⟨j, fun _ => ⟨h1, h2⟩⟩
    · exact ⟨0, fun h => absurd h hi⟩
  refine inj_le m k (fun i => Classical.choose (ex i)) (fun i hi => (Classical.choose_spec (ex i) hi).1) (fun i j hi hj e => ?_)
  have h1 := (Classical.choose_spec (ex i) hi).2
  have h2 := (Classical.choose_spec (ex j) hj).2
  rw [e] at h1
  have hs := b1 _ (Classical.choose_spec (ex j) hj).1
  exact a2 i j hi hj ((h1.sym hs.1 hs.2.2).tr h2)
theorem NC.uniq {m k : Nat} (a : NC n W U m) (b : NC n W U k) : m = k := Nat.le_antisymm (a.le b) (b.le a)
end NCS
theorem Low.one {v : Int} {k : Nat} (l : Low v k) {j : Nat} (hj : j < 64) : tb (bop64 127 v (uop 1 v)) j = decide (j = k) := by
  have h1 : (uN v).testBit k = true := by rw [← tb_uN]; exact l.2.1
  have h0 : ∀ j, j < k → (uN v).testBit j = false := fun j hj => by rw [← tb_uN]; exact l.2.2 j hj
  have hpos : uN v ≠ 0 := fun e => by rw [e] at h1; simp at h1
  have hlt := uN_lt v
  have e : uN (uop 1 v) = 2 ^ 64 - ((uN v - 1) + 1) := by
    show uN (w64 (-v)) = _
    rw [uN_w]; unfold uN at hpos hlt ⊢; omega
  have h2 := low_less h1 h0 j
  rw [Nat.testBit_and] at h2
  rw [tb_uN, uN_and, e, Nat.testBit_and, Nat.testBit_two_pow_sub_succ (by omega), decide_eq_true hj, Bool.true_and]
  by_cases q : j = k
  · subst q
    rw [h1] at h2 ⊢
    simp at h2 ⊢
    exact h2
  · simp [q] at h2 ⊢
    exact h2
section LUMPS
variable {gv : Nat → Int} {B n d : Nat} {h : AH} {W Se Fs : Nat → Bool}
set_option maxHeartbeats 4000000 in
theorem c_lumps (l : LX B n h) (hd : 15 ≤ d) (hn0 : 0 < n) (hn : n ≤ 52) (m : TbC B h) {se fs qu qd wi : Nat} (F : Flo B n h se fs qu qd wi W Se (fun _ => false)) (cl : Clo n W Se (fun _ => false) (fun _ _ => False)) :
    Vt 0 (cll PP (ev PP (gsF gv) B) d 179 [(2, rf (B + 81))] h) (fun v h' => Fr (flA B se fs qu qd) h h' ∧ (∃ Se', Flo B n h' se fs qu qd wi W Se' (fun _ => false)) ∧ ∃ k : Nat, v = (k : Int) ∧ NC n W (fun g => W g && !Se g) k) := by
  have hN := rows_le hn
  have hG := gN_le hn
  have flq : ∀ c, c ≤ B + 80 → ¬ flA B se fs qu qd c := fun c hc => by
    obtain ⟨⟨f2, f3, f4, f5, f8, kq, kd, b1, b2, b3, b4, b5, -⟩, -⟩ := F
    unfold flA; omega
  refine Vt.into (D := 14) hd (Nat.le_of_ble_eq_true rfl) rfl (fun d hd => Ends.eq (b179_0 l (by omega)) ?_)
  refine lp (24 * n * n) (fun k L q => ∃ (c : Nat), ∃ (S1 : Nat → Bool), ∃ (rep : Nat → Nat), ∃ u3 u4 : AV, L = [(2, rf (B + 81)), (0, ((c : Int))), (0, ((k : Int))), u3, u4] ∧ LX B n q ∧ k ≤ 24 * n * n ∧ c ≤ gN n ∧ Fr (flA B se fs qu qd) h q ∧ Flo B n q se fs qu qd wi W S1 (fun _ => false) ∧ Clo n W S1 (fun _ => false) (fun _ _ => False) ∧ (∀ g, g < gN n → Se g = true → S1 g = true) ∧ (∀ g, g < gN n → W g = true → rk n g < k → S1 g = true) ∧ (∀ i, i < c → rep i < gN n ∧ (W (rep i) = true ∧ Se (rep i) = false) ∧ S1 (rep i) = true) ∧ (∀ i j, i < c → j < c → Rch n W (rep i) (rep j) → i = j) ∧ (∀ g, g < gN n → S1 g = true → Se g = true ∨ ∃ i, i < c ∧ Rch n W (rep i) g) ∧ c ≤ cntN S1 (gN n)) ?_ ?_ (0) ⟨0, Se, (fun _ => 0), _, _, rfl, (by (repeat' first | assumption | refine LX.setF _ _ ?_ (by decide +kernel) | refine LX.setS ?_ rfl | refine LX.setA ?_ (by assumption))), by omega, ?_⟩
  · rintro k _ q hk ⟨c, S1, rep, uq0, uq1, rfl, lq, hkN, I⟩ ihk
    refine Ends.eq (b179_4 (n := n) (by (repeat' first | assumption | refine LX.setF _ _ ?_ (by decide +kernel) | refine LX.setS ?_ rfl | refine LX.setA ?_ (by first | assumption | omega))) (by first | assumption | omega)) ?_
    refine Ends.b3 (fun _ => by omega) (fun _ => ?_)
    obtain ⟨d1, d2, d3, d4⟩ := rw3_dec hn0 hk
    generalize et : k / (n * n) = t at *
    generalize ez : k / n % n = z at *
    generalize ey : k % n = y at *
    refine lpm (fun (u : Nat) => gN n - u) (fun (u : Nat) L q2 => ∃ (c2 : Nat), ∃ (S2 : Nat → Bool), ∃ (rep2 : Nat → Nat), ∃ u3 u4 : AV, L = [(2, rf (B + 81)), (0, ((c2 : Int))), (0, ((k : Int))), u3, u4] ∧ LX B n q2 ∧ u = cntN S2 (gN n) ∧ c2 ≤ gN n ∧ Fr (flA B se fs qu qd) h q2 ∧ Flo B n q2 se fs qu qd wi W S2 (fun _ => false) ∧ Clo n W S2 (fun _ => false) (fun _ _ => False) ∧ (∀ g, g < gN n → Se g = true → S2 g = true) ∧ (∀ g, g < gN n → W g = true → rk n g < k → S2 g = true) ∧ (∀ i, i < c2 → rep2 i < gN n ∧ (W (rep2 i) = true ∧ Se (rep2 i) = false) ∧ S2 (rep2 i) = true) ∧ (∀ i j, i < c2 → j < c2 → Rch n W (rep2 i) (rep2 j) → i = j) ∧ (∀ g, g < gN n → S2 g = true → Se g = true ∨ ∃ i, i < c2 ∧ Rch n W (rep2 i) g) ∧ c2 ≤ cntN S2 (gN n)) ?_ (cntN S1 (gN n)) ⟨c, S1, rep, _, _, rfl, (by (repeat' first | assumption | refine LX.setF _ _ ?_ (by decide +kernel) | refine LX.setS ?_ rfl | refine LX.setA ?_ (by assumption))), ?_⟩
    · rintro u _ q2 ⟨c2, S2, rep2, uq20, uq21, rfl, lq2, ⟨eu, hc, f2, F2, c2l, s2, p2, r2, i2, g2, n2⟩⟩ ihu
      have F20 := F2
      obtain ⟨⟨f2', f3, f4, f5, f8, kq, kd, b1, b2, b3, b4, b5, n1, -⟩, sw, ss, sf, sub1, sub2, -⟩ := F2
      have bw : ∀ x, x < 64 → tb (hv q2 wi k) x = (decide (x < n) && W (gI n x y z t)) := fun x hx => by rw [← d4]; exact sw.bit d1 d2 d3 hx
      have bs : ∀ x, x < 64 → tb (hv q2 se k) x = (decide (x < n) && S2 (gI n x y z t)) := fun x hx => by rw [← d4]; exact ss.bit d1 d2 d3 hx
      refine Ends.eq (b179_15 (n := n) (by (repeat' first | assumption | refine LX.setF _ _ ?_ (by decide +kernel) | refine LX.setS ?_ rfl | refine LX.setA ?_ (by first | assumption | omega))) (by first | assumption | omega)) ?_
      simp only [f8, f2', ad_rf, sw.1, ss.1, tn]
      refine Ends.g ⟨rf_pos _, by trivial, by omega, by omega⟩ (Ends.g ⟨rf_pos _, by trivial, by omega, by omega⟩ ?_)
      have bl : ∀ x, x < 64 → tb (bop64 127 (hv q2 wi k) (bop64 131 (hv q2 se k) (-1))) x = (decide (x < n) && (W (gI n x y z t) && !S2 (gI n x y z t))) := fun x hx => by
        rw [tb_and, tb_not _ hx, bw x hx, bs x hx]; cases decide (x < n) <;> simp
      generalize el : bop64 127 (hv q2 wi k) (bop64 131 (hv q2 se k) (-1)) = lf at *
      have cl' : cn 1 lf := by rw [← el]; exact cn_bop64
      refine Ends.b0 (fun zl => ?_) (fun zl => ?_)
      · rw [cmp64_z] at zl
        rw [w_succ (by omega)]
        refine ihk _ _ ⟨c2,  S2,  rep2, _, _, rfl, (by (repeat' first | assumption | refine LX.setF _ _ ?_ (by decide +kernel) | refine LX.setS ?_ rfl | refine LX.setA ?_ (by assumption))), by omega, ?_⟩
        refine ⟨hc, f2, F20, c2l, s2, fun g hg hW hr => ?_, r2, i2, g2, n2⟩
        by_cases e : rk n g < k
        · exact p2 g hg hW e
        · have e1 : rk n g = k := by omega
          obtain ⟨-, hx, -, -, -⟩ := g_lt hg
          rw [← d4, rk_eq hg d2 d3] at e1
          have := bl (gX n g) (by omega)
          rw [zl, tb_0, ← e1.1, ← e1.2.1, ← e1.2.2, gI_g, hW] at this
          simp [hx] at this
          exact this
      · obtain ⟨x, lk⟩ := Low.ex cl' (fun e => zl (cmp64_z.mpr e))
        have hb := lk.2.1
        rw [bl x lk.1] at hb
        simp only [Bool.and_eq_true, decide_eq_true_eq, Bool.not_eq_true'] at hb
        obtain ⟨hxn, hWx, hSx⟩ := hb
        have hgx := gI_lt hxn d3 d2 d1
        have m2 : TbC B q2 := m.fr f2 (fun c h1 h2 => flq c (by omega))
        have cp := c_pour (gv := gv) (d := d) (b := bop64 127 lf (uop 1 lf)) lq2 (by omega) hn0 hn F20 d1 d2 d3
        rw [d4] at cp
        refine Ends.cv lq2 (by decide +kernel) cp (fun h3 l3 _ _ _ ⟨f3', F3⟩ => ?_)
        have M1 : ∀ g, g < gN n → (poM n W S2 k (bop64 127 lf (uop 1 lf)) g = true ↔ g = gI n x y z t) := fun g hg => by
          obtain ⟨-, hx, -, -, -⟩ := g_lt hg
          rw [poM_is, ← d4, rk_eq hg d2 d3, lk.one (by omega), decide_eq_true_eq]
          constructor
          · rintro ⟨q1, q2, -, -⟩; rw [← gI_g (n := n) (g := g), q1.1, q1.2.1, q1.2.2, q2]
          · rintro rfl
            exact ⟨⟨gSo_I d1, gZ_I hxn d3 d1, gY_I hxn d3 d1⟩, gX_I hxn d1, hWx, hSx⟩
        have c3 : Clo n W (fun g => S2 g || poM n W S2 k (bop64 127 lf (uop 1 lf)) g) (fun g => (fun _ => false) g || poM n W S2 k (bop64 127 lf (uop 1 lf)) g) (fun _ _ => False) := fun g g' f h1 h2 h3 h4 h5 h6 h7 h8 => by
          simp only [Bool.false_or] at h5
          have h4 : (S2 g || poM n W S2 k (bop64 127 lf (uop 1 lf)) g) = true := h4
          rw [h5, Bool.or_false] at h4
          show (S2 g' || _) = true
          rw [c2l g g' f h1 h2 h3 h4 rfl (fun q => q) h7 h8]; rfl
        have m3 : TbC B h3 := m2.fr f3' (fun c h1 h2 => flq c (by omega))
        refine Ends.eq (b179_64 (n := n) (by (repeat' first | assumption | refine LX.setF _ _ ?_ (by decide +kernel) | refine LX.setS ?_ rfl | refine LX.setA ?_ (by first | assumption | omega))) (by first | assumption | omega)) ?_
        refine Ends.ct l3 (by decide +kernel) (by decide) (c_run l3 (by omega) hn0 hn m3 F3 c3) (fun v h4 l4 _ _ _ ⟨f4', S4, F4, s4, c4, ge4, kk, ev, ck⟩ => ?_)
        refine Ends.eq (b179_68 (n := n) (by (repeat' first | assumption | refine LX.setF _ _ ?_ (by decide +kernel) | refine LX.setS ?_ rfl | refine LX.setA ?_ (by first | assumption | omega))) (by first | assumption | omega)) ?_
        have n3 : c2 < cntN S4 (gN n) := by
          have a1 := cnt_add (n := n) (Se := S2) (Fs := fun _ => false) (M := poM n W S2 k (bop64 127 lf (uop 1 lf))) (fun g hg e => by rw [M1 g hg] at e; rw [e]; exact hSx) (fun g hg e => by cases e)
          have a2 := cntN_set (S := S2) hSx (gN n)
          rw [if_pos hgx] at a2
          have a3 : ∀ N, N ≤ gN n → cntN (fun i => S2 i || decide (i = gI n x y z t)) N ≤ cntN S4 N := by
            intro N
            induction N with
            | zero => intro _; exact Nat.le_refl _
            | succ N ih =>
              intro hN'
              have := ih (by omega)
              rw [cntN_s, cntN_s]
              cases e : (S2 N || decide (N = gI n x y z t))
              · simp; split <;> omega
              · have : S4 N = true := by
                  apply s4 N (by omega)
                  show (S2 N || poM n W S2 k (bop64 127 lf (uop 1 lf)) N) = true
                  rw [Bool.or_eq_true] at e ⊢
                  rcases e with e | e
                  · exact Or.inl e
                  · exact Or.inr ((M1 N (by omega)).mpr (of_decide_eq_true e))
                rw [this]; simp; omega
          have := a3 _ (Nat.le_refl _)
          omega
        have n4 := cntN_le S4 (gN n)
        rw [inc32 (by omega) (by omega), show (c2 : Int) + 1 = ((c2 + 1 : Nat) : Int) from rfl]
        have g4 : ∀ g, g < gN n → S4 g = true → S2 g = true ∨ Rch n W (gI n x y z t) g := fun g hg q => ge4 (fun g => S2 g = true ∨ Rch n W (gI n x y z t) g) (fun g hg q => by
            rw [Bool.or_eq_true] at q
            rcases q with q | q
            · exact Or.inl q
            · rw [M1 g hg] at q; subst q; exact Or.inr Rch.rf) (fun g g' f h1 h2 h3 h4 h5 h6 => by
            rcases h4 with h4 | h4
            · exact Or.inl (c2l g g' f h1 h2 h3 h4 rfl (fun q => q) h5 h6)
            · exact Or.inr (h4.st h1 h2 h3 h5 h6)) g hg q
        have noR : ∀ i, i < c2 → ¬ Rch n W (rep2 i) (gI n x y z t) := fun i hi hr => by
          have := hr (fun g => S2 g = true) (r2 i hi).2.2 (fun g g' f h1 h2 h3 h4 h5 h6 => c2l g g' f h1 h2 h3 h4 rfl (fun q => q) h5 h6)
          rw [hSx] at this; cases this
        have up : ∀ g, g < gN n → S2 g = true → S4 g = true := fun g hg q => s4 g hg (by show (S2 g || _) = true; rw [q]; rfl)
        have hx4 : S4 (gI n x y z t) = true := s4 _ hgx (by show (S2 _ || _) = true; rw [(M1 _ hgx).mpr rfl, Bool.or_true])
        refine ihu (cntN S4 (gN n)) _ _ ?_ ⟨ c2 + 1,  S4,  (fun i => if i = c2 then gI n x y z t else rep2 i), _, _, rfl, (by (repeat' first | assumption | refine LX.setF _ _ ?_ (by decide +kernel) | refine LX.setS ?_ rfl | refine LX.setA ?_ (by assumption))), ?_⟩
        · rw [eu]
          have : cntN S2 (gN n) < cntN S4 (gN n) := by
            have a2 := cntN_set (S := S2) hSx (gN n)
            rw [if_pos hgx] at a2
            have a3 : ∀ N, N ≤ gN n → cntN (fun i => S2 i || decide (i = gI n x y z t)) N ≤ cntN S4 N := by
              intro N
              induction N with
              | zero => intro _; exact Nat.le_refl _
              | succ N ih =>
                intro hN'
                have := ih (by omega)
                rw [cntN_s, cntN_s]
                cases e : (S2 N || decide (N = gI n x y z t))
                · simp; split <;> omega
                · have : S4 N = true := by
                    rw [Bool.or_eq_true] at e
                    rcases e with e | e
                    · exact up N (by omega) e
                    · rw [of_decide_eq_true e]; exact hx4
                  rw [this]; simp; omega
            have := a3 _ (Nat.le_refl _)
            omega
          omega
        · refine ⟨rfl, by omega, (f2.tr f3').tr f4', F4, c4, fun g hg q => up g hg (s2 g hg q), fun g hg hW hr => up g hg (p2 g hg hW hr), fun i hi => ?_, fun i j hi hj hr => ?_, fun g hg q => ?_, by omega⟩
          · by_cases e : i = c2
            · simp only [e, if_true]
              exact ⟨hgx, ⟨hWx, by cases q : Se (gI n x y z t) with
                | false => rfl
                | true => rw [s2 _ hgx q] at hSx; cases hSx⟩, hx4⟩
            · simp only [e, if_false]
              obtain ⟨a1, a2, a3⟩ := r2 i (by omega)
              exact ⟨a1, a2, up _ a1 a3⟩
          · by_cases e1 : i = c2
            · by_cases e2 : j = c2
              · omega
              · exfalso
                simp only [e1, e2, if_true, if_false] at hr
                exact noR j (by omega) (hr.sym hgx hWx)
            · by_cases e2 : j = c2
              · exfalso
                simp only [e1, e2, if_true, if_false] at hr
                exact noR i (by omega) hr
              · simp only [e1, e2, if_false] at hr
                exact i2 i j (by omega) (by omega) hr
          · rcases g4 g hg q with q | q
            · rcases g2 g hg q with q | ⟨i, h1, h2⟩
              · exact Or.inl q
              · refine Or.inr ⟨i, by omega, ?_⟩
                have : i ≠ c2 := by omega
                simp only [this, if_false]; exact h2
            · refine Or.inr ⟨c2, by omega, ?_⟩
              simp only [if_true]; exact q
    · exact ⟨rfl, I⟩
  · rintro k _ q hk ⟨c, S1, rep, uq0, uq1, rfl, lq, hkN, ⟨hc, f1, F1, c1, s1, p1, r1, i1, g1, n1⟩⟩
    obtain rfl : k = 24 * n * n := by omega
    refine Ends.eq (b179_4 (n := n) (by (repeat' first | assumption | refine LX.setF _ _ ?_ (by decide +kernel) | refine LX.setS ?_ rfl | refine LX.setA ?_ (by first | assumption | omega))) (by first | assumption | omega)) ?_
    refine Ends.b3 (fun _ => Ends.sm ⟨_, _, rfl, f1, ⟨_, F1⟩, c, rfl, rep, fun i hi => ?_, i1, fun g hg q => ?_⟩) (fun _ => by omega)
    · obtain ⟨a1, a2, a3⟩ := r1 i hi
      exact ⟨a1, by simp [a2.1, a2.2], a2.1⟩
    · rw [Bool.and_eq_true, Bool.not_eq_true'] at q
      rcases g1 g hg (p1 g hg q.1 (rk_lt hg)) with h | h
      · rw [q.2] at h; cases h
      · exact h
  · exact ⟨Nat.zero_le _, Fr.rf, F, cl, fun _ _ q => q, fun g hg _ hr => by omega, fun i hi => by omega, fun i j hi => by omega, fun g hg q => Or.inl q, Nat.zero_le _⟩
end LUMPS
