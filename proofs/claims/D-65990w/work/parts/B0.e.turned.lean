/-! L3: turned and moved: one step or two; who leaves the room -/
section TMV
variable {n w : Nat} {dx dy dz : Int} {T R1 : Nat → Bool}
theorem gAt_in {X Y Z : Nat} (hX : X < 8 * n) (hY : Y < 8 * n) (hZ : Z < 8 * n) : gAt n X Y Z = ((gI n (X / 8) (Y / 8) (Z / 8) (tyN (X % 8) (Y % 8) (Z % 8)) : Nat) : Int) := by
  unfold gAt
  rw [if_neg (by omega)]
  rfl
theorem gAt_mv {X Y Z : Nat} (hX : X < 8 * n) (hY : Y < 8 * n) (hZ : Z < 8 * n) : gAt n (X + 8 * dx) (Y + 8 * dy) (Z + 8 * dz) = if inRm n (((X / 8 : Nat) : Int) + dx) (((Y / 8 : Nat) : Int) + dy) (((Z / 8 : Nat) : Int) + dz) = true then ((gI n (((X / 8 : Nat) : Int) + dx).toNat (((Y / 8 : Nat) : Int) + dy).toNat (((Z / 8 : Nat) : Int) + dz).toNat (tyN (X % 8) (Y % 8) (Z % 8)) : Nat) : Int) else -1 := by
  unfold gAt
  by_cases e : inRm n (((X / 8 : Nat) : Int) + dx) (((Y / 8 : Nat) : Int) + dy) (((Z / 8 : Nat) : Int) + dz) = true
  · rw [if_pos e]
    rw [inRm_iff] at e
    rw [if_neg (by omega)]
    rw [show ((X : Int) + 8 * dx).toNat / 8 = (((X / 8 : Nat) : Int) + dx).toNat by omega, show ((Y : Int) + 8 * dy).toNat / 8 = (((Y / 8 : Nat) : Int) + dy).toNat by omega, show ((Z : Int) + 8 * dz).toNat / 8 = (((Z / 8 : Nat) : Int) + dz).toNat by omega, show ((X : Int) + 8 * dx).toNat % 8 = X % 8 by omega, show ((Y : Int) + 8 * dy).toNat % 8 = Y % 8 by omega, show ((Z : Int) + 8 * dz).toNat % 8 = Z % 8 by omega]
  · rw [if_neg e]
    rw [inRm_iff] at e
    rw [if_pos (by omega)]
/-- the numbers of a turned grain -/
theorem tu_nat (hn : n ≤ 52) {g : Nat} (hg : g < gN n) (hw : w < 48) : ∃ X Y Z : Nat, X < 8 * n ∧ Y < 8 * n ∧ Z < 8 * n ∧ tu8 n w g 0 = X ∧ tu8 n w g 1 = Y ∧ tu8 n w g 2 = Z ∧ tyN (X % 8) (Y % 8) (Z % 8) < 24 := by
  have h0 := tu8_rng hn hg hw (k := 0) (by decide)
  have h1 := tu8_rng hn hg hw (k := 1) (by decide)
  have h2 := tu8_rng hn hg hw (k := 2) (by decide)
  have ty := tu_ty hn hg hw 0 0 0 (by omega) (by omega) (by omega)
  rw [Int.mul_zero, Int.add_zero, Int.add_zero, Int.add_zero] at ty
  exact ⟨(tu8 n w g 0).toNat, (tu8 n w g 1).toNat, (tu8 n w g 2).toNat, by omega, by omega, by omega, by omega, by omega, by omega, ty⟩
theorem tuG_mv {g X Y Z : Nat} (e0 : tu8 n w g 0 = X) (e1 : tu8 n w g 1 = Y) (e2 : tu8 n w g 2 = Z) : tuG n w g dx dy dz = gAt n (X + 8 * dx) (Y + 8 * dy) (Z + 8 * dz) := by unfold tuG; rw [e0, e1, e2]
theorem tuG_0 {g X Y Z : Nat} (e0 : tu8 n w g 0 = X) (e1 : tu8 n w g 1 = Y) (e2 : tu8 n w g 2 = Z) : tuG n w g 0 0 0 = gAt n X Y Z := by unfold tuG; rw [e0, e1, e2, Int.mul_zero, Int.add_zero, Int.add_zero, Int.add_zero]
/-- turned first, moved then -/
theorem turn_moved (hn : n ≤ 52) (hw : w < 48) (e1 : ∀ g, g < gN n → (R1 g = true ↔ ∃ g0, g0 < gN n ∧ T g0 = true ∧ tuG n w g0 0 0 0 = (g : Int))) {x : Nat} (hx : x < gN n) :
    mvd n (onK n (fun t z y x => R1 (gI n x y z t))) dx dy dz (gSo x) (gZ n x) (gY n x) (gX n x) = true ↔ ∃ g0, g0 < gN n ∧ T g0 = true ∧ tuG n w g0 dx dy dz = (x : Int) := by
  obtain ⟨_, x1, x2, x3, x4⟩ := g_lt hx
  unfold mvd
  rw [Bool.and_eq_true, Bool.and_eq_true, decide_eq_true_eq, decide_eq_true_eq]
  constructor
  · rintro ⟨⟨a1, a2, a3, a4⟩, ⟨b1, b2⟩, hR⟩
    rw [onK_at (by omega) (by omega), e1 _ (gI_lt (by omega) (by omega) (by omega) x4)] at hR
    obtain ⟨g0, h0, hT, e⟩ := hR
    refine ⟨g0, h0, hT, ?_⟩
    obtain ⟨X, Y, Z, hX, hY, hZ, eX, eY, eZ, ty⟩ := tu_nat hn h0 hw
    rw [tuG_0 eX eY eZ, gAt_in hX hY hZ] at e
    obtain ⟨q1, q2, q3, q4⟩ := (gI_inj (by omega) (by omega) ty (by omega) (by omega) x4).mp (Int.ofNat.inj e)
    rw [tuG_mv eX eY eZ, gAt_mv hX hY hZ, q1, q2, q3, q4, if_pos (by rw [inRm_iff]; omega)]
    rw [show (((((gX n x : Nat) : Int) - dx).toNat : Nat) : Int) + dx = (gX n x : Nat) by omega, show (((((gY n x : Nat) : Int) - dy).toNat : Nat) : Int) + dy = (gY n x : Nat) by omega, show (((((gZ n x : Nat) : Int) - dz).toNat : Nat) : Int) + dz = (gZ n x : Nat) by omega, tn, tn, tn, gI_g]
  · rintro ⟨g0, h0, hT, e⟩
    obtain ⟨X, Y, Z, hX, hY, hZ, eX, eY, eZ, ty⟩ := tu_nat hn h0 hw
    rw [tuG_mv eX eY eZ, gAt_mv hX hY hZ] at e
    split at e
    · next z =>
      rw [inRm_iff] at z
      have e' := Int.ofNat.inj e
      rw [← e', gX_I (by omega) ty, gY_I (by omega) (by omega) ty, gZ_I (by omega) (by omega) ty, gSo_I ty]
      refine ⟨⟨by omega, by omega, by omega, by omega⟩, ⟨by omega, by omega⟩, ?_⟩
      rw [onK_at (by omega) (by omega), e1 _ (gI_lt (by omega) (by omega) (by omega) ty)]
      refine ⟨g0, h0, hT, ?_⟩
      rw [tuG_0 eX eY eZ, gAt_in hX hY hZ]
      congr 2 <;> omega
    · omega
theorem rT_inj : ∀ t u : Fin 24, rT t 0 = rT u 0 → rT t 1 = rT u 1 → rT t 2 = rT u 2 → t = u := by decide +kernel
theorem tu8_inj (hn : n ≤ 52) (hw : w < 48) {g g' : Nat} (hg : g < gN n) (hg' : g' < gN n) (e : ∀ k, k < 3 → tu8 n w g k = tu8 n w g' k) : g = g' := by
  obtain ⟨_, x1, x2, x3, x4⟩ := g_lt hg
  obtain ⟨_, y1, y2, y3, y4⟩ := g_lt hg'
  have a : ∀ p, p < 3 → g8 n g p = g8 n g' p := fun p hp => by
    obtain ⟨k, hk⟩ := per_3 ⟨w / 8, by omega⟩ ⟨p, hp⟩
    have := e k k.isLt
    unfold tu8 at this
    rw [hk] at this
    simp only at this
    split at this <;> omega
  have r : ∀ p : Fin 3, rT (gSo g) p = rT (gSo g') p := fun p => by
    have h1 := rT_lt ⟨gSo g, x4⟩ p
    have h2 := rT_lt ⟨gSo g', y4⟩ p
    simp only at h1 h2
    have h0 := a 0 (by decide)
    have h3 := a 1 (by decide)
    have h4 := a 2 (by decide)
    unfold g8 at h0 h3 h4
    have c : p = 0 ∨ p = 1 ∨ p = 2 := by omega
    rcases c with rfl | rfl | rfl
    · simp only [Fin.isValue, Fin.val_zero] at *; omega
    · simp only [Fin.isValue, Fin.val_one] at *; omega
    · simp only [Fin.isValue, Fin.val_two] at *; omega
  have t : gSo g = gSo g' := congrArg Fin.val (rT_inj ⟨gSo g, x4⟩ ⟨gSo g', y4⟩ (r 0) (r 1) (r 2))
  refine g_ext (n := n) t (fun b hb => ?_)
  have c : b = 0 ∨ b = 1 ∨ b = 2 := by omega
  have h0 := a 0 (by decide)
  have h3 := a 1 (by decide)
  have h4 := a 2 (by decide)
  unfold g8 at h0 h3 h4
  simp only [t] at h0 h3 h4
  rcases c with rfl | rfl | rfl
  · show gX n g = gX n g'; omega
  · show gY n g = gY n g'; omega
  · show gZ n g = gZ n g'; omega
theorem tuG_inj (hn : n ≤ 52) (hw : w < 48) {g g' x : Nat} (hg : g < gN n) (hg' : g' < gN n) (e : tuG n w g dx dy dz = (x : Int)) (e' : tuG n w g' dx dy dz = (x : Int)) : g = g' := by
  obtain ⟨X, Y, Z, hX, hY, hZ, eX, eY, eZ, ty⟩ := tu_nat hn hg hw
  obtain ⟨X', Y', Z', hX', hY', hZ', eX', eY', eZ', ty'⟩ := tu_nat hn hg' hw
  rw [tuG_mv eX eY eZ, gAt_mv hX hY hZ] at e
  rw [tuG_mv eX' eY' eZ', gAt_mv hX' hY' hZ'] at e'
  split at e
  · next z =>
    split at e'
    · next z' =>
      rw [inRm_iff] at z z'
      have q := (Int.ofNat.inj e).trans (Int.ofNat.inj e').symm
      obtain ⟨q1, q2, q3, q4⟩ := (gI_inj (by omega) (by omega) ty (by omega) (by omega) ty').mp q
      have t1 := rT_tyN ⟨X % 8, by omega⟩ ⟨Y % 8, by omega⟩ ⟨Z % 8, by omega⟩ ty
      have t2 := rT_tyN ⟨X' % 8, by omega⟩ ⟨Y' % 8, by omega⟩ ⟨Z' % 8, by omega⟩ ty'
      simp only [q4] at t1
      have s1 := t1.1.symm.trans t2.1
      have s2 := t1.2.1.symm.trans t2.2.1
      have s3 := t1.2.2.symm.trans t2.2.2
      simp only at s1 s2 s3
      refine tu8_inj hn hw hg hg' (fun k hk => ?_)
      have c : k = 0 ∨ k = 1 ∨ k = 2 := by omega
      rcases c with rfl | rfl | rfl
      · rw [eX, eX']; omega
      · rw [eY, eY']; omega
      · rw [eZ, eZ']; omega
    · omega
  · omega
theorem cntN_all {D T : Nat → Bool} : ∀ N, (∀ i, i < N → D i = true → T i = true) → cntN D N = cntN T N → ∀ i, i < N → T i = true → D i = true
  | 0, _, _, i, hi, _ => by omega
  | N + 1, h, e, i, hi, ht => by
    have le : ∀ M, M ≤ N + 1 → cntN D M ≤ cntN T M := by
      intro M
      induction M with
      | zero => intro _; exact Nat.le_refl _
      | succ M ih =>
        intro hM
        rw [cntN_s, cntN_s]
        have := ih (by omega)
        have := h M (by omega)
        cases hD : D M
        · simp; omega
        · rw [this hD]; simp; omega
    have l1 := le N (by omega)
    rw [cntN_s, cntN_s] at e
    have hN := h N (by omega)
    by_cases z : i = N
    · subst z
      cases hD : D i
      · rw [hD, ht] at e; simp at e; omega
      · rfl
    · refine cntN_all N (fun i hi => h i (by omega)) ?_ i (by omega) ht
      cases hD : D N
      · cases hT : T N
        · rw [hD, hT] at e; simpa using e
        · rw [hD, hT] at e; simp at e; omega
      · rw [hD, hN hD] at e; simp at e; exact e
/-- as many as before, if nobody leaves -/
theorem leave_cnt (hn : n ≤ 52) (hw : w < 48) {S2 : Nat → Bool} (e2 : ∀ x, x < gN n → (S2 x = true ↔ ∃ g0, g0 < gN n ∧ T g0 = true ∧ tuG n w g0 dx dy dz = (x : Int))) : cntN S2 (gN n) = cntN T (gN n) ↔ ¬ ∃ g, g < gN n ∧ T g = true ∧ tuG n w g dx dy dz = -1 := by
  have tot : ∀ g, g < gN n → tuG n w g dx dy dz = -1 ∨ ∃ x : Nat, x < gN n ∧ tuG n w g dx dy dz = (x : Int) := fun g hg => by
    obtain ⟨X, Y, Z, hX, hY, hZ, eX, eY, eZ, ty⟩ := tu_nat hn hg hw
    rw [tuG_mv eX eY eZ, gAt_mv hX hY hZ]
    split
    · next z =>
      rw [inRm_iff] at z
      exact Or.inr ⟨_, gI_lt (by omega) (by omega) (by omega) ty, rfl⟩
    · exact Or.inl rfl
  have c := cnt_rel (r := fun i j => i < gN n ∧ tuG n w i dx dy dz = (j : Int)) (gN n) (fun i => T i && decide (tuG n w i dx dy dz ≠ -1)) S2 (gN n) (fun i hi hd => by
    simp only [Bool.and_eq_true, decide_eq_true_eq] at hd
    rcases tot i hi with z | ⟨x, hx, z⟩
    · exact absurd z hd.2
    · exact ⟨x, hx, (e2 x hx).mpr ⟨i, hi, hd.1, z⟩, hi, z⟩) (fun j hj ht => by
    obtain ⟨g0, h0, hT, e⟩ := (e2 j hj).mp ht
    exact ⟨g0, h0, by simp only [Bool.and_eq_true, decide_eq_true_eq]; exact ⟨hT, by rw [e]; omega⟩, h0, e⟩) (fun i j j' a b => by have := a.2.symm.trans b.2; omega) (fun i i' j a b => tuG_inj hn hw a.1 b.1 a.2 b.2)
  rw [← c]
  constructor
  · rintro e ⟨g, hg, hT, z⟩
    have := cntN_all (gN n) (fun i _ hd => (Bool.and_eq_true_iff.mp hd).1) e g hg hT
    simp [z] at this
  · intro e
    refine cntN_congr _ (fun i hi => ?_)
    cases hT : T i
    · rfl
    · have : tuG n w i dx dy dz ≠ -1 := fun z => e ⟨i, hi, hT, z⟩
      simp [this]
end TMV
section TURNED
variable {gv : Nat → Int} {B n d st : Nat} {h : AH} {is : Nat → Bool} {cl : Nat → Nat} {S : Nat → Nat → Bool} {o p w dx dy dz : Int}
/-- in which bounds the numbers are -/
def trOK (w dx dy dz : Int) : Prop := (0 ≤ w ∧ w ≤ 47) ∧ (-64 ≤ dx ∧ dx ≤ 64) ∧ (-64 ≤ dy ∧ dy ≤ 64) ∧ -64 ≤ dz ∧ dz ≤ 64
def lvG (n : Nat) (T : Nat → Bool) (w dx dy dz : Int) : Prop := ∃ g, g < gN n ∧ T g = true ∧ tuG n w.toNat g dx dy dz = -1
theorem tr_c : (cond (tst 0 (v42 w 0 47) 0) (0 : Int) (cond (tst 0 (v42 dx (-64) 64) 0) 0 (cond (tst 0 (v42 dy (-64) 64) 0) 0 (cond (tst 0 (v42 dz (-64) 64) 0) 0 1)))) = if decide ((0 ≤ w ∧ w ≤ 47) ∧ (-64 ≤ dx ∧ dx ≤ 64) ∧ (-64 ≤ dy ∧ dy ≤ 64) ∧ -64 ≤ dz ∧ dz ≤ 64) = true then 1 else 0 := by
  rw [v42_in, v42_in, v42_in, v42_in]
  by_cases a : 0 ≤ w ∧ w ≤ 47 <;> by_cases b : -64 ≤ dx ∧ dx ≤ 64 <;> by_cases c : -64 ≤ dy ∧ dy ≤ 64 <;> by_cases e : -64 ≤ dz ∧ dz ≤ 64 <;> simp [a, b, c, e, tst0]
def w100 (B : Nat) (h : AH) : Nat → Nat → Prop := fun c j => (c = B + 53 ∧ j < 2) ∨ (c = B + 0 ∧ (j = 29 ∨ j = 30)) ∨ (c = B + 54 ∨ c = B + 55 ∨ c = B + 106 ∨ c = B + 107 ∨ c = B + 108) ∨ Scr B h c
/-- what scratch work leaves -/
def ScE (B n : Nat) (W : Nat → Nat → Prop) (c s : Nat) (h q : AH) : Prop := Ext W c s h q ∧ Reg B n q ∧ hus q + lzy B n q = hus h + lzy B n h
theorem scr_c {c : Nat} (l : LX B n h) (b : BdC B n h is cl S) (R : Reg B n h) (hs : thS is o = true) (hc : B + 246 ≤ c) (sc : c < hnx h → Scr B h c) : clS B cl o ≠ c := by
  have hb0 := l.2.2
  obtain ⟨s1, s2, s3⟩ := b.sol l hs
  intro z
  obtain ⟨k, hk6, e⟩ := sc (by omega)
  rcases thS_c hs with rfl | ⟨i, hi, rfl, e2⟩
  · have : clS B cl (-1) = B + 117 := rfl
    omega
  · have e3 : clS B cl (i : Int) = cl i := by unfold clS; rw [if_neg (by omega)]; rfl
    have e4 := ((b.1 i hi).2 e2).1
    have := R.2 (10 + k) i (by omega) (by omega) (by omega) (by rw [rgV_s hk6, rgV_b hi, e, e4, ← z, e3])
    rw [rgV_s hk6, e] at this
    have := rf_pos c
    omega
theorem c_turned100 (l : LX B n h) (hd : 28 ≤ d) (hn0 : 0 < n) (hn : n ≤ 52) (m : TbC B h) (b : BdC B n h is cl S) (R : Reg B n h) (hst : hv h (B + 0) 19 = (st : Int)) (hs2 : st < 1000000) :
    Opx 0 (cll PP (ev PP (gsF gv) B) d 100 [(2, rf (B + 0)), (0, o), (0, w), (0, dx), (0, dy), (0, dz)] h) (fun x h' => (thS is o = true ∧ trOK w dx dy dz ∧ frB is 10 < 10) ∧ ¬ lvG n (S (rwS o)) w dx dy dz ∧ x = (frB is 10 : Int) ∧ ∃ h1 c T, (∀ g, g < gN n → (T g = true ↔ ∃ g0, g0 < gN n ∧ S (rwS o) g0 = true ∧ tuG n w.toNat g0 dx dy dz = (g : Int))) ∧ ScE B n (w100 B h) 2 (24 * n * n + 24 * n * n) h h1 ∧ KpR B n (frB is 10) st T h1 h' c)
      (fun c q => ScE B n (w100 B h) 2 (24 * n * n + 24 * n * n) h q ∧ ((c = 31 ∧ thS is o = false) ∨ (c = 27 ∧ thS is o = true ∧ ¬ trOK w dx dy dz) ∨ (c = 26 ∧ thS is o = true ∧ trOK w dx dy dz ∧ lvG n (S (rwS o)) w dx dy dz) ∨ (c = 28 ∧ thS is o = true ∧ trOK w dx dy dz ∧ ¬ lvG n (S (rwS o)) w dx dy dz ∧ ¬ frB is 10 < 10))) := by
  have hb0 := l.2.2
  refine Vtx.into (D := 27) hd (Nat.le_of_ble_eq_true rfl) rfl (fun d hd => ?_)
  refine Ends.eq (b100_0 (n := n) (by (repeat' first | assumption | refine LX.setF _ _ ?_ (by decide +kernel) | refine LX.setS ?_ rfl | refine LX.setA ?_ (by first | assumption | omega))) (by first | assumption | omega)) ?_
  refine Ends.sol l (by omega) b (fun ho => ?_) (fun ho => Ends.thn rfl (Or.inr ⟨_, _, rfl, _, _, ⟨⟨Ext.rf, R, rfl⟩, Or.inl ⟨rfl, ho⟩⟩, rfl, rfl⟩))
  refine Ends.eq (b100_5 (n := n) (by (repeat' first | assumption | refine LX.setF _ _ ?_ (by decide +kernel) | refine LX.setS ?_ rfl | refine LX.setA ?_ (by first | assumption | omega))) (by first | assumption | omega)) ?_
  refine Ends.need l (by omega) tr_c (fun h1 => ?_) (fun h1 => Ends.thn rfl (Or.inr ⟨_, _, rfl, _, _, ⟨⟨Ext.rf, R, rfl⟩, Or.inr (Or.inl ⟨rfl, ho, by have := of_decide_eq_false h1; exact this⟩)⟩, rfl, rfl⟩))
  have hq : trOK w dx dy dz := by have := of_decide_eq_true h1; exact this
  obtain ⟨wk, rfl⟩ : ∃ k : Nat, w = (k : Int) := ⟨w.toNat, by have := hq.1; omega⟩
  have hw : wk < 48 := by have := hq.1; omega
  refine Ends.eq (b100_60 (n := n) (by (repeat' first | assumption | refine LX.setF _ _ ?_ (by decide +kernel) | refine LX.setS ?_ rfl | refine LX.setA ?_ (by first | assumption | omega))) (by first | assumption | omega)) ?_
  refine Ends.cv l (by decide +kernel) (c_needSpare65 l (by omega) hn R) (fun h2 l2 m2 _ _ ⟨s0, s1, a1, a2, a3, a4, ⟨a5, a6, a7, c7⟩, ⟨a8, a9, a10, c10⟩, a11, a12, a13, a14, a15⟩ => ?_)
  obtain ⟨t1, t2, t3⟩ := b.sol l ho
  have n0 := scr_c l b R ho a5 c7
  have n1 := scr_c l b R ho a8 c10
  have X2 : Ext (w100 B h) 2 (24 * n * n + 24 * n * n) h h2 := a15.sub (fun c j _ z => by rcases z with z | z; exact Or.inl z; exact Or.inr (Or.inl z)) (Nat.le_refl _) (Nat.le_refl _)
  have u2 : SG n h2 (clS B cl o) (S (rwS o)) := t1.ext a15 t3 (fun j z => by omega)
  have m2' : TbC B h2 := m.ext hb0 a15 (fun c k h1 h2 z => by omega)
  refine Ends.eq (b100_64 (n := n) (by (repeat' first | assumption | refine LX.setF _ _ ?_ (by decide +kernel) | refine LX.setS ?_ rfl | refine LX.setA ?_ (by first | assumption | omega))) (by first | assumption | omega)) ?_
  rw [a1]
  refine Ends.cv l2 (by decide +kernel) (c_clear l2 (by omega) hn a7 (by omega)) (fun h3 l3 _ _ _ ⟨f3, s3⟩ => ?_)
  have g3 := f3.fr.agr
  refine Ends.eq (b100_75 (n := n) (by (repeat' first | assumption | refine LX.setF _ _ ?_ (by decide +kernel) | refine LX.setS ?_ rfl | refine LX.setA ?_ (by first | assumption | omega))) (by first | assumption | omega)) ?_
  rw [g3.at _ _ (show ¬ B + 0 = s0 by omega), a2]
  refine Ends.cv l3 (by decide +kernel) (c_clear l3 (by omega) hn (by rw [g3.hk]; exact a10) (by omega)) (fun h4 l4 _ _ _ ⟨f4, s4⟩ => ?_)
  have g4 := f4.fr.agr
  refine Ends.eq (b100_86 (n := n) (by (repeat' first | assumption | refine LX.setF _ _ ?_ (by decide +kernel) | refine LX.setS ?_ rfl | refine LX.setA ?_ (by first | assumption | omega))) (by first | assumption | omega)) ?_
  rw [g4.at _ _ (show ¬ B + 0 = s1 by omega), g3.at _ _ (show ¬ B + 0 = s0 by omega), a1]
  have z3 : SG n h4 s0 (fun _ => false) := SG.agr (S := fun _ => false) (SG.of hn0 s3 (fun _ _ _ _ _ _ _ _ => rfl)) g4 (fun _ z => a11 z)
  have z4 : SG n h4 s1 (fun _ => false) := SG.of hn0 s4 (fun _ _ _ _ _ _ _ _ => rfl)
  have u4 : SG n h4 (clS B cl o) (S (rwS o)) := (u2.agr g3 (fun _ z => n0 z)).agr g4 (fun _ z => n1 z)
  have m4 : TbC B h4 := (m2'.fr f3.fr (fun c _ _ z => by omega)).fr f4.fr (fun c _ _ z => by omega)
  refine Ends.cv l4 (by decide +kernel) (c_turn317 l4 (by omega) hn0 hn m4 z3 u4 (fun z => n0 z.symm) (by omega) (Or.inr a5) t2 hw) (fun h5 l5 _ _ _ ⟨g5, R5, s5, r5⟩ => ?_)
  refine Ends.eq (b100_100 (n := n) (by (repeat' first | assumption | refine LX.setF _ _ ?_ (by decide +kernel) | refine LX.setS ?_ rfl | refine LX.setA ?_ (by first | assumption | omega))) (by first | assumption | omega)) ?_
  have f50 : hv h5 (B + 0) 29 = rf s0 ∧ hv h5 (B + 0) 30 = rf s1 := by
    rw [g5.at _ _ (by unfold tuW; omega), g5.at _ _ (by unfold tuW; omega), g4.at _ _ (show ¬ B + 0 = s1 by omega), g3.at _ _ (show ¬ B + 0 = s0 by omega), g4.at _ _ (show ¬ B + 0 = s1 by omega), g3.at _ _ (show ¬ B + 0 = s0 by omega)]
    exact ⟨a1, a2⟩
  rw [f50.1, f50.2]
  have z5 : SG n h5 s1 (fun _ => false) := z4.agr g5 (fun _ z => by unfold tuW at z; omega)
  have u5 : SG n h5 (clS B cl o) (S (rwS o)) := u4.agr g5 (fun _ z => by unfold tuW at z; omega)
  have q2 := hq.2.1
  have q3 := hq.2.2.1
  have q4 := hq.2.2.2
  refine Ends.cv l5 (by decide +kernel) (c_uniteMoved l5 (by omega) hn0 hn z5 s5 (fun z => a11 z) (by omega) (dx := dx) (dy := dy) (dz := dz) (by omega) (by omega) (by omega)) (fun h6 l6 _ _ _ ⟨f6, s6⟩ => ?_)
  have g6 := f6.agr
  refine Ends.eq (b100_120 (n := n) (by (repeat' first | assumption | refine LX.setF _ _ ?_ (by decide +kernel) | refine LX.setS ?_ rfl | refine LX.setA ?_ (by first | assumption | omega))) (by first | assumption | omega)) ?_
  have f60 : hv h6 (B + 0) 30 = rf s1 := by rw [g6.at _ _ (show ¬ B + 0 = s1 by omega)]; exact f50.2
  rw [f60]
  let T : Nat → Bool := fun g => mvd n (onK n (fun t z y x => R5 (gI n x y z t))) dx dy dz (gSo g) (gZ n g) (gY n g) (gX n g)
  have s6' : SG n h6 s1 T := SG.of hn0 s6 (fun t z y x ht hz hy hx => by
    show (onK n _ _ _ || _) = mvd n _ dx dy dz (gSo (gI n x y z t)) (gZ n (gI n x y z t)) (gY n (gI n x y z t)) (gX n (gI n x y z t))
    rw [onK_at hz hy, onK_at hz hy, Bool.false_or, gSo_I ht, gZ_I hx hy ht, gY_I hx hy ht, gX_I hx ht])
  have hT : ∀ g, g < gN n → (T g = true ↔ ∃ g0, g0 < gN n ∧ S (rwS o) g0 = true ∧ tuG n wk g0 dx dy dz = (g : Int)) := fun g hg => turn_moved hn hw (fun g hg => by rw [r5 g hg]; simp) hg
  have u6 : SG n h6 (clS B cl o) (S (rwS o)) := u5.agr g6 (fun _ z => n1 z)
  have X6 : Ext (w100 B h) 2 (24 * n * n + 24 * n * n) h h6 := by
    have c0 : ∀ c j, c < hnx h → c = s0 → w100 B h c j := fun c j hc e => Or.inr (Or.inr (Or.inr (by rw [e]; exact c7 (by omega))))
    have c1 : ∀ c j, c < hnx h → c = s1 → w100 B h c j := fun c j hc e => Or.inr (Or.inr (Or.inr (by rw [e]; exact c10 (by omega))))
    have e3 := X2.tr (c' := 0) (s' := 0) g3.ext (fun c j hc z => c0 c j hc z)
    have e4 := e3.tr (c' := 0) (s' := 0) g4.ext (fun c j hc z => c1 c j hc z)
    have e5 := e4.tr (c' := 0) (s' := 0) g5.ext (fun c j hc z => by rcases z with z | z; exact c0 c j hc z; exact Or.inr (Or.inr (Or.inl z)))
    exact e5.tr (c' := 0) (s' := 0) g6.ext (fun c j hc z => c1 c j hc z)
  have R6 : Reg B n h6 ∧ lzy B n h6 = lzy B n h2 := by
    have rgx : ∀ i, i < 39 → rgC i = 27 ∨ rgC i = 53 ∨ rgC i = 93 ∨ rgC i = 94 ∨ rgC i = 83 ∨ rgC i = 81 := fun i hi => rgi hi
    obtain ⟨r3, e3⟩ := a12.ext l2.2.2 g3.ext (fun i hi z => by have := rgx i hi; omega)
    obtain ⟨r4, e4⟩ := r3.ext l3.2.2 g4.ext (fun i hi z => by have := rgx i hi; omega)
    obtain ⟨r5, e5⟩ := r4.ext l4.2.2 g5.ext (fun i hi z => by have := rgx i hi; unfold tuW at z; omega)
    obtain ⟨r6, e6⟩ := r5.ext l5.2.2 g6.ext (fun i hi z => by have := rgx i hi; omega)
    exact ⟨r6, by omega⟩
  have us6 : hus h6 = hus h2 := by rw [g6.us, g5.us, g4.us, g3.us]
  have E6 : ScE B n (w100 B h) 2 (24 * n * n + 24 * n * n) h h6 := ⟨X6, R6.1, by rw [us6, R6.2]; omega⟩
  refine Ends.ct l6 (by decide +kernel) (by decide) (c_count l6 (by omega) hn s6') (fun y h7 l7 _ _ _ ⟨e7, ey⟩ => ?_)
  subst e7
  rw [ey, cntG hn0]
  refine Ends.eq (b100_131 (n := n) (by (repeat' first | assumption | refine LX.setF _ _ ?_ (by decide +kernel) | refine LX.setS ?_ rfl | refine LX.setA ?_ (by first | assumption | omega))) (by first | assumption | omega)) ?_
  refine Ends.ct l7 (by decide +kernel) (by decide) (c_count l7 (by omega) hn u6) (fun y2 h8 l8 _ _ _ ⟨e8, ey2⟩ => ?_)
  subst e8
  rw [ey2, cntG hn0]
  refine Ends.eq (b100_140 (n := n) (by (repeat' first | assumption | refine LX.setF _ _ ?_ (by decide +kernel) | refine LX.setS ?_ rfl | refine LX.setA ?_ (by first | assumption | omega))) (by first | assumption | omega)) ?_
  have lv := leave_cnt hn hw hT
  refine Ends.b0 (fun z => ?_) (fun z => ?_)
  · have nl : ¬ lvG n (S (rwS o)) (wk : Int) dx dy dz := lv.mp (Int.ofNat.inj z)
    have b8 : ∀ i, i < 10 → hv h8 (B + 28) i = (if is i = true then 1 else 0) := fun i hi => by
      rw [X6.at _ (by omega) (by unfold w100 Scr; rintro (z | z | z | ⟨k, hk6, z⟩); omega; omega; omega; have := R.1 (10 + k) (by omega); rw [rgV_s hk6, z] at this; rcases this with y | ⟨a, y1, y2, _⟩; (have := rf_pos (B + 28); omega); (unfold rf at y1; omega))]
      exact (b.1 i hi).1
    refine Ends.ct l8 (by decide +kernel) (by decide) (c_free36 l8 (by omega) b8) (fun x q9 l9 _ _ _ ⟨e9, ex⟩ => ?_)
    subst e9
    rw [ex]
    refine Ends.eq (b100_155 (n := n) (by (repeat' first | assumption | refine LX.setF _ _ ?_ (by decide +kernel) | refine LX.setS ?_ rfl | refine LX.setA ?_ (by first | assumption | omega))) (by first | assumption | omega)) ?_
    refine Ends.state l9 (by omega) (kp_c (x := 0)) (fun hs => ?_) (fun hs => Ends.thn rfl (Or.inr ⟨_, _, rfl, _, _, ⟨E6, Or.inr (Or.inr (Or.inr ⟨rfl, ho, hq, nl, of_decide_eq_false hs⟩))⟩, rfl, rfl⟩))
    have hf := of_decide_eq_true hs
    rw [if_pos hf]
    refine Ends.eq (b100_170 (n := n) (by (repeat' first | assumption | refine LX.setF _ _ ?_ (by decide +kernel) | refine LX.setS ?_ rfl | refine LX.setA ?_ (by first | assumption | omega))) (by first | assumption | omega)) ?_
    rw [f60]
    have st9 : hv q9 (B + 0) 19 = (st : Int) := by
      rw [g6.at _ _ (show ¬ B + 0 = s1 by omega), g5.at _ _ (by unfold tuW; omega), g4.at _ _ (show ¬ B + 0 = s1 by omega), g3.at _ _ (show ¬ B + 0 = s0 by omega), a15.at _ (by omega) (by omega)]
      exact hst
    refine Ends.ct l9 (by decide +kernel) (by decide) (c_keep52 l9 (by omega) hn hf (E6.2.1.body hf) s6' (by rw [g6.nx, g5.nx, g4.nx, g3.nx]; exact a9) (Or.inr a8) st9 hs2) (fun y3 h10 l10 _ _ _ ⟨ey3, c, K⟩ => ?_)
    refine Ends.eq (b100_180 (n := n) (by (repeat' first | assumption | refine LX.setF _ _ ?_ (by decide +kernel) | refine LX.setS ?_ rfl | refine LX.setA ?_ (by first | assumption | omega))) (by first | assumption | omega)) ?_
    exact Ends.sm (Or.inl ⟨_, _, rfl, ⟨ho, hq, hf⟩, nl, ey3, _, c, T, hT, E6, K⟩)
  · have yl : lvG n (S (rwS o)) (wk : Int) dx dy dz := Classical.byContradiction (fun y => z (congrArg Int.ofNat (lv.mpr y)))
    have l9 : LX B n (hnew h8 (1, 26) 6) := l8.new
    refine Ends.eq (b100_150 (n := n) (by (repeat' first | assumption | refine LX.setF _ _ ?_ (by decide +kernel) | refine LX.setS ?_ rfl | refine LX.setA ?_ (by first | assumption | omega))) (by first | assumption | omega)) ?_
    exact Ends.g ⟨rf_pos _, by rw [ad_rf, hk_new, if_pos rfl]⟩ (Ends.thn rfl (Or.inr ⟨_, _, rfl, _, _, ⟨E6, Or.inr (Or.inr (Or.inl ⟨rfl, ho, hq, yl⟩))⟩, rfl, rfl⟩))
end TURNED
