/-! L3: the centre, on both sides -/
section CENT
variable {gv : Nat → Int} {B n d : Nat} {h : AH} {is : Nat → Bool} {cl : Nat → Nat} {S : Nat → Nat → Bool} {T : Nat → Bool} {o : Int} {ax : Nat}
/-- twice .. the sum of the middles along an axis, in eighths -/
def cnW (n : Nat) (T : Nat → Bool) (ax g : Nat) : Nat := if T g = true then g8 n g ax else 0
def cenT (n : Nat) (T : Nat → Bool) (ax : Nat) : Nat := sumN (cnW n T ax) (gN n)
def cenS (n : Nat) (T : Nat → Bool) (ax : Nat) (p : Int) : Nat := if p = 0 then cenT n T ax / Nat.gcd (cenT n T ax) (cntN T (gN n)) else cntN T (gN n) / Nat.gcd (cenT n T ax) (cntN T (gN n))
theorem cnW_le {g : Nat} (hn : n ≤ 52) (hg : g < gN n) : cnW n T ax g ≤ 416 := by
  unfold cnW
  split
  · have := (g8_lt hg ax).2
    omega
  · omega
theorem sumW_le {w : Nat → Nat} {c : Nat} (hw : ∀ g, g < gN n → w g ≤ c) : sumN w (gN n) ≤ c * gN n := by
  rw [← sumN_c (c := c)]
  exact sumN_le _ hw
theorem cenT_le (hn : n ≤ 52) {k : Nat} (hk : k ≤ gN n) : sumN (cnW n T ax) k ≤ 1403830272 := by
  have h1 := sumN_mono (f := cnW n T ax) (gN n) hk
  have h2 := sumW_le (n := n) (w := cnW n T ax) (c := 416) (fun g hg => cnW_le hn hg)
  have h3 := gN_le2 hn
  omega
theorem g8_row {t z y x : Nat} (ht : t < 24) (hz : z < n) (hy : y < n) (hx : x < n) (ha : ax < 3) : g8 n (gI n x y z t) ax = 8 * (if ax = 0 then x else if ax = 1 then y else z) + rT t ax := by
  have : ax = 0 ∨ ax = 1 ∨ ax = 2 := by omega
  rcases this with rfl | rfl | rfl
  · show 8 * gX n _ + rT (gSo _) 0 = _
    rw [gX_I hx ht, gSo_I ht]
    rfl
  · show 8 * gY n _ + rT (gSo _) 1 = _
    rw [gY_I hx hy ht, gSo_I ht]
    rfl
  · show 8 * gZ n _ + rT (gSo _) 2 = _
    rw [gZ_I hx hy ht, gSo_I ht]
    rfl
theorem cen_div {x y p : Nat} (hx : (x : Int) ≤ 4611686018427387904) (hg : 0 < p) (hd : p ∣ x) (e : x / p = y) : bop64 109 (x : Int) (p : Int) = (y : Int) := by
  rw [ldvd ⟨by omega, hx⟩ (by omega) (Int.natCast_dvd_natCast.mpr hd), ← e]
  rfl
theorem c_centre4 (l : LX B n h) (hd : 20 ≤ d) (hn0 : 0 < n) (hn : n ≤ 52) (m : TbC B h) (b : BdC B n h is cl S) {a p : Int} :
    Opx 1 (cll PP (ev PP (gsF gv) B) d 4 [(2, rf (B + 0)), (0, o), (0, a), (0, p)] h) (fun x h' => thS is o = true ∧ ((0 ≤ a ∧ a ≤ 2) ∧ 0 ≤ p ∧ p ≤ 1) ∧ cntN (S (rwS o)) (gN n) ≠ 0 ∧ x = ((cenS n (S (rwS o)) a.toNat p : Nat) : Int) ∧ h' = h) (fun c q => q = h ∧ ((c = 31 ∧ thS is o = false) ∨ (c = 27 ∧ thS is o = true ∧ ¬ ((0 ≤ a ∧ a ≤ 2) ∧ 0 ≤ p ∧ p ≤ 1)) ∨ (c = 26 ∧ thS is o = true ∧ ((0 ≤ a ∧ a ≤ 2) ∧ 0 ≤ p ∧ p ≤ 1) ∧ cntN (S (rwS o)) (gN n) = 0))) := by
  refine Opx.inq (D := 19) hd (Nat.le_of_ble_eq_true rfl) rfl (fun d hd Q K KE => ?_)
  refine Ends.eq (b4_0 (n := n) (by (repeat' first | assumption | refine LX.setF _ _ ?_ (by decide +kernel) | refine LX.setS ?_ rfl | refine LX.setA ?_ (by first | assumption | omega))) (by first | assumption | omega)) ?_
  refine Ends.sol l (by omega) b (fun ho => ?_) (fun ho => Ends.thn rfl (KE _ _ ⟨rfl, Or.inl ⟨rfl, ho⟩⟩))
  refine Ends.eq (b4_5 (n := n) (by (repeat' first | assumption | refine LX.setF _ _ ?_ (by decide +kernel) | refine LX.setS ?_ rfl | refine LX.setA ?_ (by first | assumption | omega))) (by first | assumption | omega)) ?_
  refine Ends.need (p := decide ((0 ≤ a ∧ a ≤ 2) ∧ 0 ≤ p ∧ p ≤ 1)) l (by omega) (by
    rw [v42_in, v42_in]
    simp only [ct0, decide_eq_true_eq]
    grind) (fun hp => ?_) (fun hp => Ends.thn rfl (KE _ _ ⟨rfl, Or.inr (Or.inl ⟨rfl, ho, of_decide_eq_false hp⟩)⟩))
  have hp := of_decide_eq_true hp
  obtain ⟨s, s2, s3⟩ := b.sol l ho
  have K2 := fun x h1 e => K x h (⟨ho, hp, h1, e, rfl⟩)
  have K3 := fun h1 => KE 26 h ⟨rfl, Or.inr (Or.inr ⟨rfl, ho, hp, h1⟩)⟩
  clear K KE
  generalize clS B cl o = s0 at *
  generalize S (rwS o) = T at *
  obtain ⟨ax, rfl⟩ : ∃ k : Nat, a = (k : Int) := ⟨a.toNat, by omega⟩
  have ha : ax < 3 := by omega
  rw [tn] at K2
  have hN := rows_le hn
  have ka := s.1
  refine Ends.eq (b4_33 (n := n) (by (repeat' first | assumption | refine LX.setF _ _ ?_ (by decide +kernel) | refine LX.setS ?_ rfl | refine LX.setA ?_ (by first | assumption | omega))) (by first | assumption | omega)) ?_
  refine Ends.ct l (by decide +kernel) (by decide) (c_count l (by omega) hn s) (fun y q l1 _ _ _ ⟨e1, ey⟩ => ?_)
  subst e1
  rw [ey, cntG hn0]
  have cle : cntN T (gN n) ≤ gN n := cntN_le T (gN n)
  have gle := gN_le2 hn
  refine Ends.eq (b4_42 (n := n) (by (repeat' first | assumption | refine LX.setF _ _ ?_ (by decide +kernel) | refine LX.setS ?_ rfl | refine LX.setA ?_ (by first | assumption | omega))) (by first | assumption | omega)) ?_
  refine Ends.b1 (fun nz => ?_) (fun z => ?_)
  rotate_left
  · have e0 : cntN T (gN n) = 0 := by
      have := cmp64_z.mp z
      exact Int.ofNat.inj this
    have l9 : LX B n (hnew q (1, 26) 6) := l1.new
    refine Ends.eq (b4_59 (n := n) (by (repeat' first | assumption | refine LX.setF _ _ ?_ (by decide +kernel) | refine LX.setS ?_ rfl | refine LX.setA ?_ (by first | assumption | omega))) (by first | assumption | omega)) ?_
    exact Ends.g ⟨rf_pos _, by rw [ad_rf, hk_new, if_pos rfl]⟩ (Ends.thn rfl (K3 e0))
  have n0 : cntN T (gN n) ≠ 0 := fun e => nz (cmp64_z.mpr (by rw [e]; rfl))
  have fin : sumN (rwW n (cnW n T ax)) (24 * n * n) = cenT n T ax := sumG
  have le : ∀ k, k ≤ 24 * n * n → sumN (rwW n (cnW n T ax)) k ≤ 1403830272 := fun k hk => by
    have h1 := sumN_mono (f := rwW n (cnW n T ax)) (24 * n * n) hk
    have h2 := cenT_le (T := T) (ax := ax) hn (Nat.le_refl (gN n))
    rw [fin] at h1
    unfold cenT at h1
    omega
  generalize hcc : cntN T (gN n) = cc at *
  rw [show uop 2 (cc : Int) = (cc : Int) from rfl]
  have ly : ∀ (t z : Nat), t < 24 → z < n → (∀ u6 u8 u11 u12 u13 u14 u15, ¬ u6.1 = 1 → ¬ u8.1 = 1 → Ends (ev PP (gsF gv) B d 4 76 [(2, rf (B + 0)), (0, o), (0, (ax : Int)), (0, p), (2, rf s0), (1, (cc : Int)), u6, (1, ((sumN (rwW n (cnW n T ax)) (rw3 n t (z + 1) 0) : Nat) : Int)), u8, (0, (t : Int)), (0, ((z + 1 : Nat) : Int)), u11, u12, u13, u14, u15] [] q) Q) → ∀ (c y : Nat) (u6 u8 u12 u13 u14 u15 : AV), ¬ u6.1 = 1 → ¬ u8.1 = 1 → y + c = n → Ends (ev PP (gsF gv) B d 4 88 [(2, rf (B + 0)), (0, o), (0, (ax : Int)), (0, p), (2, rf s0), (1, (cc : Int)), u6, (1, ((sumN (rwW n (cnW n T ax)) (rw3 n t z y) : Nat) : Int)), u8, (0, (t : Int)), (0, (z : Int)), (0, (y : Int)), u12, u13, u14, u15] [] q) Q := by
    intro t z ht hz nxt_ c
    induction c with
    | zero =>
      intro y u6 u8 u12 u13 u14 u15 k6 k8 hy
      obtain rfl : n = y := by omega
      refine Ends.eq (b4_88 (by assumption) l1 (by omega)) ?_
      refine Ends.b3 (fun _ => ?_) (fun z => absurd z (by omega))
      rw [w_succ (by omega), ← rw3_z]
      exact nxt_ _ _ _ _ _ _ _ k6 k8
    | succ c ih =>
      intro y u6 u8 u12 u13 u14 u15 k6 k8 hy
      have hyn : y < n := by omega
      have r1 := rw3_lt ht hz hyn
      have le1 := le (rw3 n t z y + 1) (by omega)
      have up : sumN (rwW n (cnW n T ax)) (rw3 n t z y + 1) = sumN (rwW n (cnW n T ax)) (rw3 n t z y) + rwW n (cnW n T ax) (rw3 n t z y) := rfl
      have rw_ : rwW n (cnW n T ax) (rw3 n t z y) = sumN (fun x => if tb (hv q s0 (rw3 n t z y)) x = true then 8 * (if ax = 0 then x else if ax = 1 then y else z) + rT t ax else 0) n := by
        rw [rwW_at hz hyn]
        refine sumN_congr n (fun x hx => ?_)
        show cnW n T ax (gI n x y z t) = _
        unfold cnW
        rw [g8_row ht hz hyn hx ha, s.bit ht hz hyn (show x < 64 by omega), decide_eq_true hx, Bool.true_and]
      have go : ∀ (x : Int) (u6 u8 u12 u13 u14 u15 : AV), ¬ u6.1 = 1 → ¬ u8.1 = 1 → ∀ v, u12 = (1, v) → ∀ v14, u14 = (0, v14) → ∀ v15, u15 = (0, v15) → x = ((sumN (rwW n (cnW n T ax)) (rw3 n t z (y + 1)) : Nat) : Int) → Ends (ev PP (gsF gv) B d 4 209 [(2, rf (B + 0)), (0, o), (0, (ax : Int)), (0, p), (2, rf s0), (1, (cc : Int)), u6, (1, x), u8, (0, (t : Int)), (0, (z : Int)), (0, (y : Int)), u12, u13, u14, u15] [] q) Q := fun x u6 u8 u12 u13 u14 u15 k6 k8 v e12 v14 e14 v15 e15 e => by
        subst e12 e14 e15
        refine Ends.eq (b4_209 l1 (by omega)) ?_
        rw [w_succ (by omega), e]
        exact ih (y + 1) u6 u8 _ u13 _ _ k6 k8 (by omega)
      refine Ends.eq (b4_88 (by assumption) l1 (by omega)) ?_
      have tr : hv q (B + 37) (3 * t + ax) = ((rT t ax : Nat) : Int) := (m.1 t ht).1 ax ha
      have rl := (rT_lt ⟨t, ht⟩ ⟨ax, ha⟩).2
      have rl : rT t ax < 8 := rl
      rw [row_eq hn ht hz hyn, tn, ad_rf, ka, show bop32 96 (bop32 104 (3 : Int) (t : Int)) (ax : Int) = ((3 * t + ax : Nat) : Int) from by rw [show bop32 104 (3 : Int) (t : Int) = ((3 * t : Nat) : Int) from mulNN (x := 3) (by omega)]; exact addNN (by omega), tn, tr]
      refine Ends.b3 (fun z => absurd z (by omega)) (fun _ => Ends.g ⟨rf_pos s0, rfl, by omega, by show _ < ((24 * n * n : Nat) : Int); omega⟩ (Ends.g ⟨by omega, by omega⟩ ?_))
      have cv := (s.2 (rw3 n t z y) r1).1
      refine Ends.b5 (fun a0 => ?_) (fun a1 => ?_)
      · -- along x: by bits
        obtain rfl : ax = 0 := by omega
        have bits := bits_ind (C := fun v => ∀ (A : Nat) (u6 u8 u13 : AV) (v14 : Int), ¬ u6.1 = 1 → ¬ u8.1 = 1 → (∀ x, n ≤ x → tb v x = false) → A + btW n (fun x => 8 * x + rT t 0) v = sumN (rwW n (cnW n T 0)) (rw3 n t z y + 1) → Ends (ev PP (gsF gv) B d 4 173 [(2, rf (B + 0)), (0, o), (0, ((0 : Nat) : Int)), (0, p), (2, rf s0), (1, (cc : Int)), u6, (1, (A : Int)), u8, (0, (t : Int)), (0, (z : Int)), (0, (y : Int)), (1, v), u13, (0, v14), (0, ((rT t 0 : Nat) : Int))] [] q) Q)
          (fun A u6 u8 u13 v14 k6 k8 hb e => by
            rw [btW_0] at e
            refine Ends.eq (b4_173 l1 (by omega)) ?_
            exact Ends.b0 (fun _ => go _ _ _ _ _ _ _ k6 k8 _ rfl _ rfl _ rfl (congrArg (fun k : Nat => (k : Int)) (by show A = sumN (rwW n (cnW n T 0)) (rw3 n t z y + 1); omega))) (fun z => absurd rfl z))
          (fun v k cv nz lo ihb A u6 u8 u13 v14 k6 k8 hb e => by
            have kn : k < n := by
              apply Classical.byContradiction
              intro w
              have := hb k (by omega)
              rw [lo.2.1] at this
              exact absurd this (by decide)
            rw [btW_low lo kn] at e
            have e : A + (8 * k + rT t 0 + btW n (fun x => 8 * x + rT t 0) (bop64 127 v (bop64 101 v 1))) = sumN (rwW n (cnW n T 0)) (rw3 n t z y + 1) := e
            refine Ends.eq (b4_173 l1 (by omega)) ?_
            refine Ends.b0 (fun w => absurd (cmp64_z.mp w) nz) (fun _ => ?_)
            refine Ends.ct l1 (by decide +kernel) (by decide) (c_ntz l1 (by omega) lo) (fun r q2 l2 _ _ _ ⟨eq2, er⟩ => ?_)
            subst eq2
            rw [er]
            refine Ends.eq (b4_189 k6 l2 (by omega)) ?_
            rw [show bop32 104 (8 : Int) (k : Int) = ((8 * k : Nat) : Int) from mulNN (x := 8) (by omega), addNN (by omega), show uop 2 ((8 * k + rT t 0 : Nat) : Int) = ((8 * k + rT t 0 : Nat) : Int) from rfl, show bop64 97 (A : Int) ((8 * k + rT t 0 : Nat) : Int) = ((A + (8 * k + rT t 0) : Nat) : Int) from by rw [add64 (by omega) (by omega)]; omega]
            exact ihb _ _ _ _ _ k6 (by decide) (fun x hx => by rw [lo.less x, hb x hx, Bool.and_false]) (by omega))
        refine bits _ (hv q s0 (rw3 n t z y)) cv rfl _ _ _ _ _ k6 k8 (fun x hx => ?_) ?_
        · by_cases x6 : x < 64
          · rw [s.bit ht hz hyn x6, decide_eq_false (by omega), Bool.false_and]
          · exact tb_big (by omega)
        · rw [up, rw_]
          rfl
      · -- along y, z: by count
        have c0 : ax ≠ 0 := by omega
        have cond_ : cond (tst 1 ((ax : Nat) : Int) 1) (z : Int) (y : Int) = (((if ax = 0 then 0 else if ax = 1 then y else z : Nat)) : Int) := by
          rw [ct1, if_neg c0]
          by_cases c1 : ax = 1
          · rw [if_pos c1, if_pos (by omega)]
          · rw [if_neg c1, if_neg (by omega)]
        have cl_ : (if ax = 0 then 0 else if ax = 1 then y else z) < n := by
          rw [if_neg c0]
          split <;> omega
        have cn_ : v880 (hv q s0 (rw3 n t z y)) = ((cntN (fun x => T (gI n x y z t)) n : Nat) : Int) := by
          rw [rowCnt hn (s.2 (rw3 n t z y) r1).2]
          rw [cntN_congr n (fun x hx => onK_at hz hyn)]
        have rw2 : rwW n (cnW n T ax) (rw3 n t z y) = cntN (fun x => T (gI n x y z t)) n * (8 * (if ax = 0 then 0 else if ax = 1 then y else z) + rT t ax) := by
          rw [rw_, ← sumN_cnt]
          refine sumN_congr n (fun x hx => ?_)
          rw [s.bit ht hz hyn (show x < 64 by omega), decide_eq_true hx, Bool.true_and, if_neg c0, if_neg c0]
        rw [cond_, cn_]
        have cm := cntN_le (fun x => T (gI n x y z t)) n
        generalize (if ax = 0 then 0 else if ax = 1 then y else z) = cq at *
        generalize cntN (fun x => T (gI n x y z t)) n = cm_ at *
        rw [up, rw2] at le1
        rw [show bop32 104 (8 : Int) (cq : Int) = ((8 * cq : Nat) : Int) from mulNN (x := 8) (by omega), addNN (by omega), show uop 2 (cm_ : Int) = (cm_ : Int) from rfl, show uop 2 ((8 * cq + rT t ax : Nat) : Int) = ((8 * cq + rT t ax : Nat) : Int) from rfl]
        generalize hf : cm_ * (8 * cq + rT t ax) = ff at *
        have mm : (cm_ : Int) * ((8 * cq + rT t ax : Nat) : Int) = (ff : Int) := by rw [← hf]; exact (Int.natCast_mul _ _).symm
        rw [mul64 (by rw [mm]; omega) (by rw [mm]; omega), mm, add64 (by omega) (by omega)]
        refine go _ _ _ _ _ _ _ k6 (by decide) _ rfl _ rfl _ rfl ?_
        show _ = ((sumN (rwW n (cnW n T ax)) (rw3 n t z y + 1) : Nat) : Int)
        rw [up, rw2]
        omega
  have lz : ∀ (t : Nat), t < 24 → (∀ u6 u8 u10 u11 u12 u13 u14 u15, ¬ u6.1 = 1 → ¬ u8.1 = 1 → Ends (ev PP (gsF gv) B d 4 66 [(2, rf (B + 0)), (0, o), (0, (ax : Int)), (0, p), (2, rf s0), (1, (cc : Int)), u6, (1, ((sumN (rwW n (cnW n T ax)) (rw3 n (t + 1) 0 0) : Nat) : Int)), u8, (0, ((t + 1 : Nat) : Int)), u10, u11, u12, u13, u14, u15] [] q) Q) → ∀ (c z : Nat) (u6 u8 u11 u12 u13 u14 u15 : AV), ¬ u6.1 = 1 → ¬ u8.1 = 1 → z + c = n → Ends (ev PP (gsF gv) B d 4 76 [(2, rf (B + 0)), (0, o), (0, (ax : Int)), (0, p), (2, rf s0), (1, (cc : Int)), u6, (1, ((sumN (rwW n (cnW n T ax)) (rw3 n t z 0) : Nat) : Int)), u8, (0, (t : Int)), (0, (z : Int)), u11, u12, u13, u14, u15] [] q) Q := by
    intro t ht nxt_ c
    induction c with
    | zero =>
      intro z u6 u8 u11 u12 u13 u14 u15 k6 k8 hz
      obtain rfl : n = z := by omega
      refine Ends.eq (b4_76 (by assumption) l1 (by omega)) ?_
      refine Ends.b3 (fun _ => ?_) (fun z => absurd z (by omega))
      rw [w_succ (by omega), ← rw3_t]
      exact nxt_ _ _ _ _ _ _ _ _ k6 k8
    | succ c ih =>
      intro z u6 u8 u11 u12 u13 u14 u15 k6 k8 hz
      refine Ends.eq (b4_76 (by assumption) l1 (by omega)) ?_
      refine Ends.b3 (fun w => absurd w (by omega)) (fun _ => ?_)
      exact ly t z ht (by omega) (fun u6 u8 u11 u12 u13 u14 u15 k6 k8 => ih (z + 1) u6 u8 u11 u12 u13 u14 u15 k6 k8 (by omega)) n 0 u6 u8 u12 u13 u14 u15 k6 k8 (Nat.zero_add n)
  have lt : ∀ (c t : Nat) (u6 u8 u10 u11 u12 u13 u14 u15 : AV), ¬ u6.1 = 1 → ¬ u8.1 = 1 → t + c = 24 → Ends (ev PP (gsF gv) B d 4 66 [(2, rf (B + 0)), (0, o), (0, (ax : Int)), (0, p), (2, rf s0), (1, (cc : Int)), u6, (1, ((sumN (rwW n (cnW n T ax)) (rw3 n t 0 0) : Nat) : Int)), u8, (0, (t : Int)), u10, u11, u12, u13, u14, u15] [] q) Q := by
    intro c
    induction c with
    | zero =>
      intro t u6 u8 u10 u11 u12 u13 u14 u15 k6 k8 ht
      obtain rfl : t = 24 := by omega
      have e24 : sumN (rwW n (cnW n T ax)) (rw3 n 24 0 0) = cenT n T ax := by
        rw [← fin]
        unfold rw3
        rw [Nat.add_zero, Nat.add_zero]
      have le2 := le (24 * n * n) (Nat.le_refl _)
      rw [fin] at le2
      rw [e24]
      refine Ends.eq (b4_66 l1 (by omega)) ?_
      refine Ends.b3 (fun _ => ?_) (fun z => absurd z (by omega))
      refine Ends.ct l1 (by decide +kernel) (by decide) (c_gcd l1 (by omega) ⟨by omega, by omega⟩ ⟨by omega, by omega⟩) (fun g q2 l2 _ _ _ ⟨eg, eq2⟩ => ?_)
      subst eq2
      have eg : g = ((Nat.gcd (cenT n T ax) cc : Nat) : Int) := eg
      rw [eg]
      have gp : 0 < Nat.gcd (cenT n T ax) cc := Nat.gcd_pos_of_pos_right _ (Nat.pos_of_ne_zero n0)
      refine Ends.eq (b4_234 (by assumption) l2 (by omega)) ?_
      rw [ct1, ct1]
      refine Ends.g (by split <;> omega) (Ends.sm (K2 _ n0 ?_))
      unfold cenS
      rw [hcc]
      by_cases p0 : p = 0
      · rw [if_pos p0, if_pos p0]
        exact cen_div (by omega) gp (Nat.gcd_dvd_left ..) rfl
      · rw [if_neg p0, if_neg p0]
        exact cen_div (by omega) gp (Nat.gcd_dvd_right ..) rfl
    | succ c ih =>
      intro t u6 u8 u10 u11 u12 u13 u14 u15 k6 k8 ht
      refine Ends.eq (b4_66 l1 (by omega)) ?_
      refine Ends.b3 (fun w => absurd w (by omega)) (fun _ => ?_)
      exact lz t (by omega) (fun u6 u8 u10 u11 u12 u13 u14 u15 k6 k8 => ih (t + 1) u6 u8 u10 u11 u12 u13 u14 u15 k6 k8 (by omega)) n 0 u6 u8 u11 u12 u13 u14 u15 k6 k8 (Nat.zero_add n)
  have := lt 24 0 (9, 0) (9, 0) (9, 0) (9, 0) (9, 0) (9, 0) (9, 0) (9, 0) (by decide) (by decide) rfl
  rw [show rw3 n 0 0 0 = 0 from by unfold rw3; simp] at this
  exact this
theorem c_centre567 (l : LX B n h) (hd : 14 ≤ d) (hn0 : 0 < n) (hn : n ≤ 52) (m : TbM B h) (b : BdM B n h is S) {a p : Int} :
    Vt 1 (cll PP (ev PP (gsF gv) B) d 567 [(2, rf (B + 149)), (0, o), (0, a), (0, p)] h) (fun x h' => (thS is o = false ∧ MdA B h 1 x h') ∨ (thS is o = true ∧ ¬ ((0 ≤ a ∧ a ≤ 2) ∧ 0 ≤ p ∧ p ≤ 1) ∧ MdA B h 2 x h') ∨ (thS is o = true ∧ ((0 ≤ a ∧ a ≤ 2) ∧ 0 ≤ p ∧ p ≤ 1) ∧ cntN (S (rwS o)) (gN n) = 0 ∧ MdA B h 3 x h') ∨ (thS is o = true ∧ ((0 ≤ a ∧ a ≤ 2) ∧ 0 ≤ p ∧ p ≤ 1) ∧ cntN (S (rwS o)) (gN n) ≠ 0 ∧ x = ((cenS n (S (rwS o)) a.toNat p : Nat) : Int) ∧ h' = hset h (B + 149) 0 0)) := by
  have hb0 := l.2.2
  refine Vt.inq (D := 13) hd (Nat.le_of_ble_eq_true rfl) rfl (fun d hd P K => ?_)
  refine Ends.eq (b567_0 (n := n) (by (repeat' first | assumption | refine LX.setF _ _ ?_ (by decide +kernel) | refine LX.setS ?_ rfl | refine LX.setA ?_ (by first | assumption | omega))) (by first | assumption | omega)) ?_
  obtain ⟨v1, v2⟩ := v765_is (o := o) (fun i hi => (b.1 i hi).1)
  refine Ends.g v1 ?_
  rw [v2]
  have bad : ∀ (c : Nat), c ≠ 0 → P ((0, (1, 0)), hset h (B + 149) 0 (c : Int)) → Ends (ev PP (gsF gv) B d 567 51 [(2, rf (B + 149)), (0, o), (0, a), (0, p), (9, 0), (9, 0), (9, 0), (9, 0), (9, 0), (9, 0)] [(0, (c : Int)), (2, rf (B + 149))] h) P := fun c hc r => by
    refine Ends.eq (b567_51 (n := n) (by (repeat' first | assumption | refine LX.setF _ _ ?_ (by decide +kernel) | refine LX.setS ?_ rfl | refine LX.setA ?_ (by first | assumption | omega))) (by first | assumption | omega)) ?_
    refine Ends.mbad l (by omega) (c := c) hc rfl ?_
    have l2 : LX B n (hset h (B + 149) 0 (c : Int)) := LX.setF 149 0 l (by decide +kernel)
    refine Ends.eq (b567_54 (n := n) (by (repeat' first | assumption | refine LX.setF _ _ ?_ (by decide +kernel) | refine LX.setS ?_ rfl | refine LX.setA ?_ (by first | assumption | omega))) (by first | assumption | omega)) ?_
    exact Ends.b0 (fun z => absurd z (by decide)) (fun _ => Ends.sm r)
  have b31 : P ((0, (1, 0)), hset h (B + 149) 0 ((2 : Nat) : Int)) → Ends (ev PP (gsF gv) B d 567 31 [(2, rf (B + 149)), (0, o), (0, a), (0, p), (9, 0), (9, 0), (9, 0), (9, 0), (9, 0), (9, 0)] [(2, rf (B + 149))] h) P := fun r => by
    refine Ends.eq (b567_31 (n := n) (by (repeat' first | assumption | refine LX.setF _ _ ?_ (by decide +kernel) | refine LX.setS ?_ rfl | refine LX.setA ?_ (by first | assumption | omega))) (by first | assumption | omega)) ?_
    exact bad 2 (by decide) r
  cases ho : thS is o
  · refine Ends.b0 (fun z => absurd z (by decide)) (fun _ => ?_)
    exact bad 1 (by decide) (K _ _ (Or.inl ⟨ho, rfl, rfl⟩))
  refine Ends.b0 (fun _ => ?_) (fun z => absurd rfl z)
  have k2 := fun w => b31 (K _ _ (Or.inr (Or.inl ⟨ho, w, rfl, rfl⟩)))
  refine Ends.b2 (fun w => k2 (by omega)) (fun w1 => ?_)
  refine Ends.b4 (fun w => k2 (by omega)) (fun w2 => ?_)
  refine Ends.b2 (fun w => k2 (by omega)) (fun w3 => ?_)
  refine Ends.b5 (fun w4 => ?_) (fun w => k2 (by omega))
  have hp : (0 ≤ a ∧ a ≤ 2) ∧ 0 ≤ p ∧ p ≤ 1 := ⟨⟨w1, w2⟩, w3, w4⟩
  obtain ⟨t1, t2⟩ := b.sol ho
  rw [v806_is ho]
  refine Ends.ct l (by decide +kernel) (by decide) (c_isEmptyM l (by omega) hn (by omega) t1) (fun y q l1 _ _ _ ⟨e1, w⟩ => ?_)
  subst e1
  refine Ends.eq (b567_43 (n := n) (by (repeat' first | assumption | refine LX.setF _ _ ?_ (by decide +kernel) | refine LX.setS ?_ rfl | refine LX.setA ?_ (by first | assumption | omega))) (by first | assumption | omega)) ?_
  rcases w with ⟨ey, w⟩ | ⟨ey, w⟩
  · have e0 : cntN (S (rwS o)) (gN n) = 0 := by
      rw [cntN_congr (g := fun _ => false) (gN n) w]
      have zz : ∀ N, cntN (fun _ => false) N = 0 := fun N => by
        induction N with
        | zero => rfl
        | succ N ih => rw [cntN_s, ih]; rfl
      exact zz _
    rw [ey]
    exact bad 3 (by decide) (K _ _ (Or.inr (Or.inr (Or.inl ⟨ho, hp, e0, rfl, rfl⟩))))
  have n0 : cntN (S (rwS o)) (gN n) ≠ 0 := fun z => by
    obtain ⟨g, g1, g2⟩ := w
    rw [cntN_zero _ z g g1] at g2
    exact absurd g2 (by decide)
  rw [ey]
  have K2 := fun x e => K x (hset q (B + 149) 0 0) (Or.inr (Or.inr (Or.inr ⟨ho, hp, n0, e, rfl⟩)))
  clear K bad b31 k2
  refine Ends.eq (b567_51 (n := n) (by (repeat' first | assumption | refine LX.setF _ _ ?_ (by decide +kernel) | refine LX.setS ?_ rfl | refine LX.setA ?_ (by first | assumption | omega))) (by first | assumption | omega)) ?_
  refine Ends.mok l1 (by omega) rfl ?_
  have l2 : LX B n (hset q (B + 149) 0 0) := LX.setF 149 0 l1 (by decide +kernel)
  obtain ⟨s1, s2⟩ := (b.fset 0 0).sol ho
  have m2 : TbM B (hset q (B + 149) 0 0) := m.agr (Agr.rf.set (W := fun c k => c = B + 149 ∧ k = 0) ⟨rfl, rfl⟩) (fun c k a1 a2 a3 w => by omega)
  generalize hset q (B + 149) 0 0 = h2 at *
  have vr := v806_is ho
  generalize S (rwS o) = T at *
  generalize rwS o = ro at *
  obtain ⟨ax, rfl⟩ : ∃ k : Nat, a = (k : Int) := ⟨a.toNat, by omega⟩
  have ha : ax < 3 := by omega
  rw [tn] at K2
  have gle := gN_le2 hn
  refine Ends.eq (b567_54 (n := n) (by (repeat' first | assumption | refine LX.setF _ _ ?_ (by decide +kernel) | refine LX.setS ?_ rfl | refine LX.setA ?_ (by first | assumption | omega))) (by first | assumption | omega)) ?_
  refine Ends.b0 (fun _ => ?_) (fun z => absurd rfl z)
  have lp : ∀ (c k : Nat) (u5 u7 u9 : AV), ¬ u7.1 = 1 → k + c = gN n → Ends (ev PP (gsF gv) B d 567 68 [(2, rf (B + 149)), (0, o), (0, (ax : Int)), (0, p), (1, ((sumN (cnW n T ax) k : Nat) : Int)), u5, (1, ((cntN T k : Nat) : Int)), u7, (0, (k : Int)), u9] [] h2) P := by
    intro c
    induction c with
    | zero =>
      intro k u5 u7 u9 k7 hk
      obtain rfl : k = gN n := by omega
      have le2 := cenT_le (T := T) (ax := ax) hn (Nat.le_refl (gN n))
      have cle := cntN_le T (gN n)
      refine Ends.eq (b567_68 l2 (by omega)) ?_
      refine Ends.b3 (fun _ => ?_) (fun z => absurd z (by omega))
      refine Ends.ct l2 (by decide +kernel) (by decide) (c_gcd654 l2 (by omega) (by omega) (by omega)) (fun g q3 l3 _ _ _ ⟨eg, e3⟩ => ?_)
      subst e3
      rw [eg]
      have gp : 0 < Nat.gcd (sumN (cnW n T ax) (gN n)) (cntN T (gN n)) := Nat.gcd_pos_of_pos_right _ (Nat.pos_of_ne_zero n0)
      refine Ends.eq (b567_125 k7 l3 (by omega)) ?_
      rw [ct1, ct1]
      refine Ends.g (by split <;> omega) (Ends.sm (K2 _ ?_))
      unfold cenS cenT
      by_cases p0 : p = 0
      · rw [if_pos p0, if_pos p0]
        exact cen_div (by omega) gp (Nat.gcd_dvd_left ..) rfl
      · rw [if_neg p0, if_neg p0]
        exact cen_div (by omega) gp (Nat.gcd_dvd_right ..) rfl
    | succ c ih =>
      intro k u5 u7 u9 k7 hk
      have hk4 : k < gN n := by omega
      have le1 := cenT_le (T := T) (ax := ax) (k := k + 1) hn (by omega)
      have cle := cntN_le T (k + 1)
      obtain ⟨b1, b2⟩ := has_is s1 (by omega) hn hk4
      obtain ⟨c1, c2⟩ := coord_is m2 hn hk4 ha
      refine Ends.eq (b567_68 l2 (by omega)) ?_
      rw [vr, b2, c2]
      have step : ∀ (x y : Int) (u5 u7 u9 : AV), ¬ u7.1 = 1 → x = ((sumN (cnW n T ax) (k + 1) : Nat) : Int) → y = ((cntN T (k + 1) : Nat) : Int) → Ends (ev PP (gsF gv) B d 567 112 [(2, rf (B + 149)), (0, o), (0, (ax : Int)), (0, p), (1, x), u5, (1, y), u7, (0, (k : Int)), u9] [] h2) P := fun x y u5 u7 u9 k7 ex ey => by
        refine Ends.eq (b567_112 k7 l2 (by omega)) ?_
        rw [w_succ (by omega), ex, ey]
        exact ih (k + 1) u5 u7 u9 k7 (by omega)
      have up : sumN (cnW n T ax) (k + 1) = sumN (cnW n T ax) k + cnW n T ax k := rfl
      have un := cntN_s T k
      refine Ends.b3 (fun z => absurd z (by omega)) (fun _ => Ends.g b1 ?_)
      unfold cnW at up
      cases hT : T k
      · rw [hT, if_neg Bool.false_ne_true] at up
        rw [hT] at un
        rw [if_neg Bool.false_ne_true]
        exact Ends.b1 (fun z => absurd rfl z) (fun _ => step _ _ _ _ _ k7 (by unfold cnW; rw [up]; rfl) (by rw [un]; rfl))
      · rw [hT, if_pos rfl] at up
        rw [hT] at un
        rw [if_pos rfl]
        refine Ends.b1 (fun _ => Ends.g c1 ?_) (fun z => absurd z (by decide))
        have g8b := g8_lt hk4 ax
        have up2 : sumN (cnW n T ax) (k + 1) = sumN (cnW n T ax) k + g8 n k ax := up
        have un : cntN T (k + 1) = cntN T k + 1 := un
        refine step _ _ _ _ _ (by decide) ?_ ?_
        · rw [up2, show uop 2 ((g8 n k ax : Nat) : Int) = ((g8 n k ax : Nat) : Int) from rfl, add64 (by omega) (by omega)]
          omega
        · rw [un, add64 (by omega) (by omega)]
          omega
  exact lp (gN n) 0 _ _ _ (by decide) (Nat.zero_add _)
end CENT
