/-! L3: fractions (model) -/
section MFRAC
variable {gv : Nat → Int} {B n d : Nat} {h : AH} {a b kd : Int} {x y z : Fq}
/-- the fraction that was worked out last -/
def frM (B : Nat) (h : AH) : Fq := (hv h (B + 149) 23, hv h (B + 149) 24, hv h (B + 149) 25, hv h (B + 149) 26)
def mfW (B : Nat) : Nat → Nat → Prop := fun c k => c = B + 149 ∧ 23 ≤ k ∧ k ≤ 26
def MPut (B : Nat) (h : AH) (q : Fq) (h' : AH) : Prop := Agr (mfW B) h h' ∧ frM B h' = q
theorem MPut.tr {h1 h2 : AH} {p q : Fq} (u : MPut B h p h1) (v : MPut B h1 q h2) : MPut B h q h2 := ⟨u.1.tr v.1 (fun _ _ z => z), v.2⟩
theorem c_gcdM (l : LX B n h) (hd : 10 ≤ d) (h1 : -4611686018427387904 ≤ a ∧ a ≤ 4611686018427387904) (h2 : -4611686018427387904 ≤ b ∧ b ≤ 4611686018427387904) : Vt 1 (cll PP (ev PP (gsF gv) B) d 654 [(1, a), (1, b)] h) (fun v h' => v = (Int.gcd a b : Int) ∧ h' = h) := by
  refine Vt.inq (D := 9) hd (Nat.le_of_ble_eq_true rfl) rfl (fun d hd Q K => ?_)
  have ab : ∀ x : Int, -4611686018427387904 ≤ x ∧ x ≤ 4611686018427387904 → cond (tst 3 (cmp64 x 0) 0) x (uop 1 x) = ((x.natAbs : Nat) : Int) := fun x hx => by
    rw [ct3]
    by_cases z : x < 0
    · rw [if_pos (cmp64_neg.mpr z), neg64 (by omega) (by omega)]; omega
    · rw [if_neg (fun y => z (cmp64_neg.mp y))]; omega
  refine Ends.eq (b654_0 (n := n) (by decide) l (by omega)) ?_
  rw [ab a h1, ab b h2]
  have key : ∀ (N x y : Nat) (u1 u3 u5 u7 u8 u9 : AV), ¬ u3.1 = 1 → ¬ u7.1 = 1 → y ≤ N → (x : Int) ≤ 4611686018427387904 → (y : Int) ≤ 4611686018427387904 → Nat.gcd x y = Int.gcd a b → Ends (ev PP (gsF gv) B d 654 28 [(1, a), u1, (1, b), u3, (1, (x : Int)), u5, (1, (y : Int)), u7, u8, u9] [] h) Q := by
    intro N
    induction N with
    | zero =>
      intro x y u1 u3 u5 u7 u8 u9 k3 k7 hy hx1 hy1 e
      obtain rfl : y = 0 := by omega
      refine Ends.eq (b654_28 (n := n) k3 k7 l (by omega)) ?_
      rw [Nat.gcd_zero_right] at e
      exact Ends.b5 (fun _ => Ends.sm (K _ _ ⟨by rw [e], rfl⟩)) (fun z => absurd z (by decide))
    | succ N ih =>
      intro x y u1 u3 u5 u7 u8 u9 k3 k7 hy hx1 hy1 e
      refine Ends.eq (b654_28 (n := n) k3 k7 l (by omega)) ?_
      by_cases y0 : y = 0
      · subst y0
        rw [Nat.gcd_zero_right] at e
        exact Ends.b5 (fun _ => Ends.sm (K _ _ ⟨by rw [e], rfl⟩)) (fun z => absurd z (by decide))
      · refine Ends.b5 (fun z => ?_) (fun _ => Ends.g (by omega) ?_)
        · have := cmp64_pos.mpr (show (0 : Int) < (y : Int) by omega)
          exact absurd z (by omega)
        · rw [lmod hy1 (by omega)]
          have hlt : x % y < y := Nat.mod_lt _ (by omega)
          refine ih y (x % y) _ _ _ _ _ _ k3 (by decide) (by omega) hy1 (by omega) ?_
          rw [← e, Nat.gcd_comm y, ← Nat.gcd_rec]
          exact Nat.gcd_comm ..
  exact key b.natAbs a.natAbs b.natAbs _ _ _ _ _ _ (by decide) (by decide) (Nat.le_refl _) (by omega) (by omega) rfl
/-- four fields at once -/
theorem fr_set4 {p q r s : Int} : MPut B h (p, q, r, s) (hset (hset (hset (hset h (B + 149) 26 s) (B + 149) 23 p) (B + 149) 24 q) (B + 149) 25 r) := by
  refine ⟨(((Agr.rf.set ⟨rfl, by decide, by decide⟩).set ⟨rfl, by decide, by decide⟩).set ⟨rfl, by decide, by decide⟩).set ⟨rfl, by decide, by decide⟩, ?_⟩
  unfold frM
  rw [hv_set_ne (k := 25) (j := 23) (by omega), hv_set_ne (k := 24) (j := 23) (by omega), hv_set_at, hv_set_ne (k := 25) (j := 24) (by omega), hv_set_at, hv_set_at, hv_set_ne (k := 25) (j := 26) (by omega), hv_set_ne (k := 24) (j := 26) (by omega), hv_set_ne (k := 23) (j := 26) (by omega), hv_set_at]
theorem c_faulty624 (l : LX B n h) (hd : 10 ≤ d) {f : Int} : Vd (cll PP (ev PP (gsF gv) B) d 624 [(2, rf (B + 149)), (0, f)] h) (fun h' => MPut B h (flt f) h') := by
  refine Vd.inq (D := 9) hd (Nat.le_of_ble_eq_true rfl) rfl (fun d hd Q K => ?_)
  refine Ends.eq (b624_0 l (by omega)) ?_
  refine Ends.sm (K _ ⟨(((Agr.rf.set ⟨rfl, by decide, by decide⟩).set ⟨rfl, by decide, by decide⟩).set ⟨rfl, by decide, by decide⟩).set ⟨rfl, by decide, by decide⟩, ?_⟩)
  unfold frM
  rw [hv_set_ne (k := 26) (j := 23) (by omega), hv_set_ne (k := 25) (j := 23) (by omega), hv_set_ne (k := 24) (j := 23) (by omega), hv_set_at, hv_set_ne (k := 26) (j := 24) (by omega), hv_set_ne (k := 25) (j := 24) (by omega), hv_set_at, hv_set_ne (k := 26) (j := 25) (by omega), hv_set_at, hv_set_at]; rfl
theorem fr_q {v g : Int} (hx : -4611686018427387904 ≤ v ∧ v ≤ 4611686018427387904) (hg : 0 < g) (hg2 : g ≤ 4611686018427387904) (hdv : g ∣ v) : bop64 109 v (cond (tst 3 (cmp64 b 0) 0) g (uop 1 g)) = (if b < 0 then -v else v) / g := by
  rw [ct3]
  by_cases z : b < 0
  · rw [if_pos (cmp64_neg.mpr z), if_pos z, neg64 (by omega) (by omega)]
    show w64 (v.tdiv (-g)) = _
    have e : v.tdiv (-g) = (-v) / g := by rw [Int.tdiv_neg, Int.tdiv_eq_ediv_of_dvd hdv, Int.neg_ediv_of_dvd hdv]
    have b1 : (v.tdiv (-g)).natAbs ≤ v.natAbs := by rw [Int.natAbs_tdiv]; exact Nat.div_le_self _ _
    rw [w64_id ⟨by omega, by omega⟩, e]
  · rw [if_neg (fun y => z (cmp64_neg.mp y)), if_neg z]
    exact ldvd hx hg hdv
theorem c_frac649 (l : LX B n h) (hd : 13 ≤ d) (h1 : -4611686018427387904 ≤ a ∧ a ≤ 4611686018427387904) (h2 : -4611686018427387904 ≤ b ∧ b ≤ 4611686018427387904) (hb : b ≠ 0) : Vd (cll PP (ev PP (gsF gv) B) d 649 [(2, rf (B + 149)), (1, a), (1, b), (0, kd)] h) (fun h' => MPut B h (mkF a b kd) h') := by
  obtain ⟨g1, g2, g3⟩ := gcd_pos (a := a) hb
  have g4 : (Int.gcd a b : Int) ≤ 4611686018427387904 := by
    have := Int.le_of_dvd (show 0 < (b.natAbs : Int) by omega) (Int.dvd_natAbs.mpr g3)
    omega
  refine Vd.inq (D := 12) hd (Nat.le_of_ble_eq_true rfl) rfl (fun d hd Q K => ?_)
  refine Ends.eq (b649_0 l (by omega)) ?_
  refine Ends.ct l (by decide +kernel) (by decide) (c_gcdM l (by omega) h1 h2) (fun v q1 l1 _ _ _ ⟨ev, eh⟩ => ?_)
  subst ev
  rw [eh]
  refine Ends.eq (b649_5 l (by omega)) ?_
  rw [fr_q h1 g1 g4 g2, fr_q h2 g1 g4 g3, show (if b < 0 then -a else a) / (Int.gcd a b : Int) = mN a b from rfl, show (if b < 0 then -b else b) / (Int.gcd a b : Int) = mD a b from rfl]
  refine Ends.g (by rw [ct3]; split <;> (try rw [neg64 (by omega) (by omega)]) <;> omega) ?_
  have l3 : LX B n (hset (hset (hset (hset h (B + 149) 26 0) (B + 149) 23 (mN a b)) (B + 149) 24 (mD a b)) (B + 149) 25 kd) := LX.setF 149 25 (LX.setF 149 24 (LX.setF 149 23 (LX.setF 149 26 l (by decide +kernel)) (by decide +kernel)) (by decide +kernel)) (by decide +kernel)
  have F := fr_set4 (B := B) (h := h) (p := mN a b) (q := mD a b) (r := kd) (s := 0)
  have bad : ∀ (x6 x8 : Int) (u2 u4 u7 u9 : AV), mkF a b kd = flt 3 → Ends (ev PP (gsF gv) B d 649 83 [(2, rf (B + 149)), (1, a), u2, (1, b), u4, (0, kd), (1, x6), u7, (1, x8), u9] [] (hset (hset (hset (hset h (B + 149) 26 0) (B + 149) 23 (mN a b)) (B + 149) 24 (mD a b)) (B + 149) 25 kd)) Q := by
    intro x6 x8 u2 u4 u7 u9 em
    refine Ends.eq (b649_83 l3 (by omega)) ?_
    refine Ends.cv l3 (by decide +kernel) (c_faulty624 l3 (by omega)) (fun q2 l2 _ _ _ e => ?_)
    refine Ends.eq (b649_88 l2 (by omega)) ?_
    exact Ends.sm (K _ (by rw [em]; exact F.tr e))
  refine Ends.l4 (fun z => bad _ _ _ _ _ _ ?_) (fun z1 => Ends.l2 (fun z => bad _ _ _ _ _ _ ?_) (fun z2 => Ends.l5 (fun z3 => ?_) (fun z => bad _ _ _ _ _ _ ?_)))
  · unfold mkF; rw [if_pos (Or.inl z)]
  · unfold mkF; rw [if_pos (Or.inr (Or.inl z))]
  · refine Ends.eq (b649_88 l3 (by omega)) ?_
    refine Ends.sm (K _ ?_)
    have e : mkF a b kd = (mN a b, mD a b, kd, 0) := by
      unfold mkF
      rw [if_neg (fun w => by rcases w with w | w | w <;> omega)]
    rw [e]; exact F
  · unfold mkF; rw [if_pos (Or.inr (Or.inr z))]
theorem c_truth854 (l : LX B n h) (hd : 15 ≤ d) {v : Int} {t : Bool} (hv1 : v = b2i t) : Vd (cll PP (ev PP (gsF gv) B) d 854 [(2, rf (B + 149)), (0, v)] h) (fun h' => MPut B h (mkF (b2i t) 1 0) h') := by
  refine Vd.inq (D := 14) hd (Nat.le_of_ble_eq_true rfl) rfl (fun d hd Q K => ?_)
  refine Ends.eq (b854_0 l (by omega)) ?_
  have e : cond (tst 0 v 0) (0 : Int) 1 = b2i t := by rw [ct0, hv1]; cases t <;> rfl
  rw [e]
  have := b2i_r t
  refine Ends.cv l (by decide +kernel) (c_frac649 l (by omega) (by omega) (by decide) (by decide)) (fun q2 l2 _ _ _ e => ?_)
  refine Ends.eq (b854_15 l2 (by omega)) ?_
  exact Ends.sm (K _ e)
/-- how two fractions stand -/
theorem v773_is {t b u c : Int} (h1 : -1000000000 ≤ t ∧ t ≤ 1000000000) (h2 : 1 ≤ b ∧ b ≤ 1000000000) (h3 : -1000000000 ≤ u ∧ u ≤ 1000000000) (h4 : 1 ≤ c ∧ c ≤ 1000000000) : v773 t b u c = cmpZ (t * c) (u * b) := by
  have m1 := mulB h1 (show -1000000000 ≤ c ∧ c ≤ 1000000000 by omega)
  have m2 := mulB h3 (show -1000000000 ≤ b ∧ b ≤ 1000000000 by omega)
  unfold v773 cmpZ
  rw [mul64 (by omega) (by omega), mul64 (by omega) (by omega), ct3, ct5]
  by_cases z : t * c < u * b
  · rw [if_pos (cmp64_neg.mpr z), if_pos z]
  · rw [if_neg (fun y => z (cmp64_neg.mp y)), if_neg z]
    by_cases z2 : u * b < t * c
    · rw [if_pos (cmp64_pos.mpr z2), if_neg (by omega)]
    · rw [if_neg (fun y => z2 (cmp64_pos.mp y)), if_pos (by omega)]
theorem cmpZ_3 {p q : Int} : cmpZ p q = -1 ∨ cmpZ p q = 0 ∨ cmpZ p q = 1 := by
  unfold cmpZ
  by_cases z : p < q
  · rw [if_pos z]; exact Or.inl rfl
  · rw [if_neg z]
    by_cases z2 : p = q
    · rw [if_pos z2]; exact Or.inr (Or.inl rfl)
    · rw [if_neg z2]; exact Or.inr (Or.inr rfl)
/-- a fraction as it is, once more -/
theorem mkF_self (ok : FOK x) (x0 : x.2.2.2 = 0) : mkF x.1 x.2.1 x.2.2.1 = (x.1, x.2.1, x.2.2.1, 0) := by
  obtain ⟨b1, b2, b3, b4⟩ := ok.b x0
  have e1 : mN x.1 x.2.1 = x.1 := by unfold mN; rw [if_neg (by omega), b4]; exact Int.ediv_one _
  have e2 : mD x.1 x.2.1 = x.2.1 := by unfold mD; rw [if_neg (by omega), b4]; exact Int.ediv_one _
  unfold mkF
  rw [e1, e2, if_neg (fun w => by rcases w with w | w | w <;> omega)]
theorem fq_eta (x0 : x.2.2.2 = 0) : (x.1, x.2.1, x.2.2.1, (0 : Int)) = x := by
  obtain ⟨a, b, c, e⟩ := x
  obtain rfl : e = 0 := x0
  rfl
theorem bd2_z {al : Bool} (x0 : x.2.2.2 = 0) (y0 : y.2.2.2 = 0) : bd2 al x y = if al && decide (y.2.2.1 ≠ x.2.2.1) then 1 else 0 := by
  unfold bd2
  rw [if_neg (by omega), if_neg (by omega)]
theorem dvd_cop {a b c : Int} (h : a ∣ b * c) (g : Int.gcd b a = 1) : a ∣ c := by
  have h1 : a.natAbs ∣ b.natAbs * c.natAbs := by rw [← Int.natAbs_mul]; exact Int.natAbs_dvd_natAbs.mpr h
  have h2 : Nat.Coprime a.natAbs b.natAbs := by rw [Nat.coprime_comm]; exact g
  exact Int.natAbs_dvd_natAbs.mp (Nat.Coprime.dvd_of_dvd_mul_left h2 h1)
/-- two fractions that stand alike are one -/
theorem fq_same (ox : FOK x) (oy : FOK y) (x0 : x.2.2.2 = 0) (y0 : y.2.2.2 = 0) (hk : x.2.2.1 = y.2.2.1) (e : x.1 * y.2.1 = y.1 * x.2.1) : x = y := by
  obtain ⟨a1, a2, a3, a4⟩ := ox.b x0
  obtain ⟨b1, b2, b3, b4⟩ := oy.b y0
  have d1 : x.2.1 ∣ y.2.1 := by
    have : x.2.1 ∣ x.1 * y.2.1 := ⟨y.1, by rw [e, Int.mul_comm]⟩
    exact dvd_cop this a4
  have d2 : y.2.1 ∣ x.2.1 := by
    have : y.2.1 ∣ y.1 * x.2.1 := ⟨x.1, by rw [← e, Int.mul_comm]⟩
    exact dvd_cop this b4
  have e2 : x.2.1 = y.2.1 := by
    have := Int.le_of_dvd (by omega) d1
    have := Int.le_of_dvd (by omega) d2
    omega
  have e1 : x.1 = y.1 := by
    rw [e2] at e
    exact Int.eq_of_mul_eq_mul_right (by omega) e
  obtain ⟨xa, xb, xc, xe⟩ := x
  obtain ⟨ya, yb, yc, ye⟩ := y
  simp only at *
  subst e1 e2 hk x0 y0
  rfl
/-- products of their parts -/
theorem fqB (ox : FOK x) (oy : FOK y) (x0 : x.2.2.2 = 0) (y0 : y.2.2.2 = 0) : (-1000000000000000000 ≤ x.1 * y.2.1 ∧ x.1 * y.2.1 ≤ 1000000000000000000) ∧ (-1000000000000000000 ≤ y.1 * x.2.1 ∧ y.1 * x.2.1 ≤ 1000000000000000000) ∧ (1 ≤ x.2.1 * y.2.1 ∧ x.2.1 * y.2.1 ≤ 1000000000000000000) ∧ (-1000000000000000000 ≤ x.1 * y.1 ∧ x.1 * y.1 ≤ 1000000000000000000) ∧ (-1000000000000000000 ≤ x.2.1 * y.1 ∧ x.2.1 * y.1 ≤ 1000000000000000000) := by
  obtain ⟨a1, a2, a3, a4⟩ := ox.b x0
  obtain ⟨c1, c2, c3, c4⟩ := oy.b y0
  have n3 : 0 < x.2.1 * y.2.1 := Int.mul_pos (by omega) (by omega)
  have m3 := mulB (a := x.2.1) (c := y.2.1) (by omega) (by omega)
  exact ⟨mulB a1 (by omega), mulB c1 (by omega), by omega, mulB a1 c1, mulB (by omega) c1⟩
section TWO
variable {s : Nat} {t : Bool} {u3 u5 u8 u10 u13 : AV} {x12 : Int} {W : Fq} {Q : Rs → Prop}
theorem two_118 (l : LX B n h) (hd : 16 ≤ d) (hs : (t = true ∧ s = 0) ∨ (t = false ∧ s = 1)) (ef : W = if x.2.2.1 ≠ 0 ∨ y.2.2.1 ≠ 0 then flt 1 else mkF (b2i (if t = true then decide (x.1 ≠ 0) || decide (y.1 ≠ 0) else decide (x.1 ≠ 0) && decide (y.1 ≠ 0))) 1 0) (K : ∀ h', MPut B h W h' → Q ((0, (9, 0)), h')) :
    Ends (ev PP (gsF gv) B d 857 118 [(2, rf (B + 149)), (0, (s : Int)), (1, x.1), u3, (1, x.2.1), u5, (0, x.2.2.1), (1, y.1), u8, (1, y.2.1), u10, (0, y.2.2.1), (0, x12), u13] [] h) Q := by
  have bad : W = flt 1 → Ends (ev PP (gsF gv) B d 857 128 [(2, rf (B + 149)), (0, (s : Int)), (1, x.1), u3, (1, x.2.1), u5, (0, x.2.2.1), (1, y.1), u8, (1, y.2.1), u10, (0, y.2.2.1), (0, x12), u13] [] h) Q := fun e => by
    refine Ends.eq (b857_128 l (by omega)) ?_
    refine Ends.cv l (by decide +kernel) (c_faulty624 l (by omega)) (fun q2 l2 _ _ _ g => ?_)
    refine Ends.eq (b857_133 l2 (by omega)) (Ends.eq (b857_184 l2 (by omega)) (Ends.sm (K _ ?_)))
    rw [e]; exact g
  have ev_ : cond (tst 1 (s : Int) 1) (cond (tst 1 (cmp64 x.1 0) 0) (1 : Int) (cond (tst 0 (cmp64 y.1 0) 0) 0 1)) (cond (tst 0 (cmp64 x.1 0) 0) 0 (cond (tst 0 (cmp64 y.1 0) 0) 0 1)) = b2i (if t = true then decide (x.1 ≠ 0) || decide (y.1 ≠ 0) else decide (x.1 ≠ 0) && decide (y.1 ≠ 0)) := by
    rw [tc0, tc0, tc1]
    rcases hs with ⟨e1, e2⟩ | ⟨e1, e2⟩
    · subst e1 e2
      have e0 : tst 1 ((0 : Nat) : Int) 1 = true := by decide
      rw [e0]
      by_cases p : x.1 = 0 <;> by_cases q : y.1 = 0 <;> simp [p, q, b2i]
    · subst e1 e2
      have e0 : tst 1 ((1 : Nat) : Int) 1 = false := by decide
      rw [e0]
      by_cases p : x.1 = 0 <;> by_cases q : y.1 = 0 <;> simp [p, q, b2i]
  refine Ends.eq (b857_118 l (by omega)) (Ends.b1 (fun z => bad ?_) (fun z => Ends.b0 (fun z2 => ?_) (fun z2 => bad ?_)))
  · rw [ef, if_pos (Or.inl z)]
  · rw [ev_]
    refine Ends.cv l (by decide +kernel) (c_truth854 l (by omega) rfl) (fun q2 l2 _ _ _ g => ?_)
    refine Ends.eq (b857_184 l2 (by omega)) (Ends.sm (K _ ?_))
    rw [ef, if_neg (fun w => by rcases w with w | w; exact w z; exact w z2)]; exact g
  · rw [ef, if_pos (Or.inr z2)]
theorem two_33 (l : LX B n h) (hd : 16 ≤ d) (ox : FOK x) (oy : FOK y) (x0 : x.2.2.2 = 0) (y0 : y.2.2.2 = 0) (hs : (t = true ∧ s = 10) ∨ (t = false ∧ s = 11)) (ef : W = if x12 < -4 ∨ 4 < x12 then flt 1 else if t = true then mkF (x.1 * y.1) (x.2.1 * y.2.1) x12 else if y.1 = 0 then flt 2 else mkF (x.1 * y.2.1) (x.2.1 * y.1) x12) (K : ∀ h', MPut B h W h' → Q ((0, (9, 0)), h')) :
    Ends (ev PP (gsF gv) B d 857 33 [(2, rf (B + 149)), (0, (s : Int)), (1, x.1), u3, (1, x.2.1), u5, (0, x.2.2.1), (1, y.1), u8, (1, y.2.1), u10, (0, y.2.2.1), (0, x12), u13] [] h) Q := by
  obtain ⟨m1, m2, m3, m4, m5⟩ := fqB ox oy x0 y0
  obtain ⟨a1, a2, a3, a4⟩ := ox.b x0
  have bad : W = flt 1 → Ends (ev PP (gsF gv) B d 857 46 [(2, rf (B + 149)), (0, (s : Int)), (1, x.1), u3, (1, x.2.1), u5, (0, x.2.2.1), (1, y.1), u8, (1, y.2.1), u10, (0, y.2.2.1), (0, x12), u13] [] h) Q := fun e => by
    refine Ends.eq (b857_46 l (by omega)) ?_
    refine Ends.cv l (by decide +kernel) (c_faulty624 l (by omega)) (fun q2 l2 _ _ _ g => ?_)
    refine Ends.eq (b857_51 l2 (by omega)) (Ends.eq (b857_108 l2 (by omega)) (Ends.sm (K _ ?_)))
    rw [e]; exact g
  refine Ends.eq (b857_33 l (by omega)) (Ends.b4 (fun z => bad ?_) (fun z => Ends.b3 (fun z2 => ?_) (fun z2 => bad ?_)))
  · rw [ef, if_pos (Or.inr z)]
  · have nk : ¬ (x12 < -4 ∨ 4 < x12) := fun w => by rcases w with w | w <;> omega
    rw [if_neg nk] at ef
    rcases hs with ⟨e1, e2⟩ | ⟨e1, e2⟩
    · subst e1 e2
      refine Ends.b1 (fun z => absurd rfl z) (fun _ => ?_)
      rw [mul64 (x := x.1) (y := y.1) (by omega) (by omega), mul64 (x := x.2.1) (y := y.2.1) (by omega) (by omega)]
      refine Ends.cv l (by decide +kernel) (c_frac649 l (by omega) (by omega) (by omega) (by omega)) (fun q2 l2 _ _ _ g => ?_)
      refine Ends.eq (b857_75 l2 (by omega)) (Ends.eq (b857_108 l2 (by omega)) (Ends.sm (K _ ?_)))
      rw [ef, if_pos rfl]; exact g
    · subst e1 e2
      rw [if_neg Bool.false_ne_true] at ef
      refine Ends.b1 (fun _ => Ends.l1 (fun z => ?_) (fun z => ?_)) (fun z => absurd z (by decide))
      · rw [mul64 (x := x.1) (y := y.2.1) (by omega) (by omega), mul64 (x := x.2.1) (y := y.1) (by omega) (by omega)]
        have hb : x.2.1 * y.1 ≠ 0 := fun w => by
          rcases Int.mul_eq_zero.mp w with w | w
          · omega
          · exact z w
        refine Ends.cv l (by decide +kernel) (c_frac649 l (by omega) (by omega) (by omega) hb) (fun q2 l2 _ _ _ g => ?_)
        refine Ends.eq (b857_108 l2 (by omega)) (Ends.sm (K _ ?_))
        rw [ef, if_neg z]; exact g
      · refine Ends.cv l (by decide +kernel) (c_faulty624 l (by omega)) (fun q2 l2 _ _ _ g => ?_)
        refine Ends.eq (b857_90 l2 (by omega)) (Ends.eq (b857_108 l2 (by omega)) (Ends.sm (K _ ?_)))
        rw [ef, if_pos z]; exact g
  · rw [ef, if_pos (Or.inl z2)]
end TWO
theorem c_two857 {s : Nat} {op : Int} (l : LX B n h) (hd : 17 ≤ d) (hs : opC[s]? = some op) (ox : FOK x) (oy : FOK y) (x0 : x.2.2.2 = 0) (y0 : y.2.2.2 = 0) : Vd (cll PP (ev PP (gsF gv) B) d 857 [(2, rf (B + 149)), (0, (s : Int)), (1, x.1), (1, x.2.1), (0, x.2.2.1), (1, y.1), (1, y.2.1), (0, y.2.2.1)] h) (fun h' => MPut B h (fTwo op x y) h') := by
  obtain ⟨a1, a2, a3, a4⟩ := ox.b x0
  obtain ⟨c1, c2, c3, c4⟩ := oy.b y0
  obtain ⟨m1, m2, m3, m4, m5⟩ := fqB ox oy x0 y0
  refine Vd.inq (D := 16) hd (Nat.le_of_ble_eq_true rfl) rfl (fun d hd Q K => ?_)
  have hs12 : s = 0 ∨ s = 1 ∨ s = 2 ∨ s = 3 ∨ s = 4 ∨ s = 5 ∨ s = 6 ∨ s = 7 ∨ s = 8 ∨ s = 9 ∨ s = 10 ∨ s = 11 := by
    have h1 := (List.getElem?_eq_some_iff.mp hs).1
    have h2 : opC.length = 12 := rfl
    omega
  have cmpr : ∀ {p : Int → Int} {o : Int}, (p (-1) = b2i (hold o (-1)) ∧ p 0 = b2i (hold o 0) ∧ p 1 = b2i (hold o 1)) → p (cmpZ (x.1 * y.2.1) (y.1 * x.2.1)) = b2i (hold o (cmpZ (x.1 * y.2.1) (y.1 * x.2.1))) := fun ⟨p1, p2, p3⟩ => by
    rcases cmpZ_3 (p := x.1 * y.2.1) (q := y.1 * x.2.1) with z | z | z <;> rw [z] <;> assumption
  have bk : ∀ {o : Int}, x.2.2.1 = y.2.2.1 → bd2 (alk o) x y = 0 := fun e => by
    rw [bd2_z x0 y0, decide_eq_false (fun z => z e.symm), Bool.and_false, if_neg Bool.false_ne_true]
  have bn : ∀ {o : Int}, alk o = true → ¬ x.2.2.1 = y.2.2.1 → fTwo o x y = flt 1 := fun ho e => by
    unfold fTwo
    rw [bd2_z x0 y0, ho, show decide (y.2.2.1 ≠ x.2.2.1) = true from decide_eq_true (p := y.2.2.1 ≠ x.2.2.1) (fun z => e z.symm), Bool.true_and, if_pos rfl, if_pos (by decide)]
  have bz : ∀ {o : Int}, alk o = false → bd2 (alk o) x y = 0 := fun ho => by
    rw [bd2_z x0 y0, ho, Bool.false_and, if_neg Bool.false_ne_true]
  have cases_ : ∀ (s0 : Nat) (o : Int), opC[s0]? = some o → s = s0 → op = o := fun s0 o h1 h2 => by rw [h2, h1] at hs; exact (Option.some.inj hs).symm
  refine Ends.eq (b857_0 l (by omega)) ?_
  rw [v773_is a1 a2 c1 c2]
  rcases hs12 with e | e | e | e | e | e | e | e | e | e | e | e
  · have eo := cases_ 0 31868 rfl e
    subst e eo
    refine Ends.b0 (fun z => absurd z (by decide)) (fun _ => Ends.b1 (fun _ => Ends.b0 (fun z => absurd z (by decide)) (fun _ => Ends.b1 (fun z => absurd rfl z) (fun _ => ?_))) (fun z => absurd z (by decide)))
    refine two_118 (s := 0) (t := true) l hd (Or.inl ⟨rfl, rfl⟩) ?_ K
    unfold fTwo
    rw [bz (by decide)]; simp
  · have eo := cases_ 1 9766 rfl e
    subst e eo
    refine Ends.b0 (fun z => absurd z (by decide)) (fun _ => Ends.b1 (fun _ => Ends.b0 (fun _ => ?_) (fun z => absurd rfl z)) (fun z => absurd z (by decide)))
    refine two_118 (s := 1) (t := false) l hd (Or.inr ⟨rfl, rfl⟩) ?_ K
    unfold fTwo
    rw [bz (by decide)]; simp
  · have eo := cases_ 2 15677 rfl e
    subst e eo
    refine Ends.b0 (fun z => absurd z (by decide)) (fun _ => Ends.b1 (fun _ => Ends.b0 (fun z => absurd z (by decide)) (fun _ => Ends.b1 (fun _ => Ends.b0 (fun ek => Ends.b1 (fun _ => Ends.b1 (fun _ => Ends.b1 (fun z => absurd rfl z) (fun _ => ?_)) (fun z => absurd z (by decide))) (fun z => absurd z (by decide))) (fun ek => ?_)) (fun z => absurd z (by decide)))) (fun z => absurd z (by decide)))
    · rw [cmpr (p := fun c => cond (tst 1 c 0) 0 1) (o := 15677) ⟨by decide, by decide, by decide⟩]
      refine Ends.cv l (by decide +kernel) (c_truth854 l (by omega) rfl) (fun q2 l2 _ _ _ g => ?_)
      refine Ends.eq (b857_291 l2 (by omega)) (Ends.eq (b857_397 l2 (by omega)) (Ends.sm (K _ ?_)))
      unfold fTwo
      rw [bk ek, if_neg (by decide), if_neg (by decide), if_neg (by decide), if_neg (by decide), if_neg (by decide), if_neg (by decide)]
      exact g
    · refine Ends.cv l (by decide +kernel) (c_faulty624 l (by omega)) (fun q2 l2 _ _ _ g => ?_)
      refine Ends.eq (b857_209 l2 (by omega)) (Ends.eq (b857_397 l2 (by omega)) (Ends.sm (K _ ?_)))
      rw [bn (by decide) ek]; exact g
  · have eo := cases_ 3 8509 rfl e
    subst e eo
    refine Ends.b0 (fun z => absurd z (by decide)) (fun _ => Ends.b1 (fun _ => Ends.b0 (fun z => absurd z (by decide)) (fun _ => Ends.b1 (fun _ => Ends.b0 (fun ek => Ends.b1 (fun _ => Ends.b1 (fun _ => Ends.b1 (fun _ => Ends.b1 (fun z => absurd rfl z) (fun _ => ?_)) (fun z => absurd z (by decide))) (fun z => absurd z (by decide))) (fun z => absurd z (by decide))) (fun ek => ?_)) (fun z => absurd z (by decide)))) (fun z => absurd z (by decide)))
    · rw [cmpr (p := fun c => cond (tst 0 c 0) 0 1) (o := 8509) ⟨by decide, by decide, by decide⟩]
      refine Ends.cv l (by decide +kernel) (c_truth854 l (by omega) rfl) (fun q2 l2 _ _ _ g => ?_)
      refine Ends.eq (b857_313 l2 (by omega)) (Ends.eq (b857_397 l2 (by omega)) (Ends.sm (K _ ?_)))
      unfold fTwo
      rw [bk ek, if_neg (by decide), if_neg (by decide), if_neg (by decide), if_neg (by decide), if_neg (by decide), if_neg (by decide)]
      exact g
    · refine Ends.cv l (by decide +kernel) (c_faulty624 l (by omega)) (fun q2 l2 _ _ _ g => ?_)
      refine Ends.eq (b857_209 l2 (by omega)) (Ends.eq (b857_397 l2 (by omega)) (Ends.sm (K _ ?_)))
      rw [bn (by decide) ek]; exact g
  · have eo := cases_ 4 60 rfl e
    subst e eo
    refine Ends.b0 (fun z => absurd z (by decide)) (fun _ => Ends.b1 (fun _ => Ends.b0 (fun z => absurd z (by decide)) (fun _ => Ends.b1 (fun _ => Ends.b0 (fun ek => Ends.b1 (fun _ => Ends.b1 (fun _ => Ends.b1 (fun _ => Ends.b1 (fun _ => Ends.b1 (fun z => absurd rfl z) (fun _ => ?_)) (fun z => absurd z (by decide))) (fun z => absurd z (by decide))) (fun z => absurd z (by decide))) (fun z => absurd z (by decide))) (fun ek => ?_)) (fun z => absurd z (by decide)))) (fun z => absurd z (by decide)))
    · rw [cmpr (p := fun c => cond (tst 3 c 0) 0 1) (o := 60) ⟨by decide, by decide, by decide⟩]
      refine Ends.cv l (by decide +kernel) (c_truth854 l (by omega) rfl) (fun q2 l2 _ _ _ g => ?_)
      refine Ends.eq (b857_335 l2 (by omega)) (Ends.eq (b857_397 l2 (by omega)) (Ends.sm (K _ ?_)))
      unfold fTwo
      rw [bk ek, if_neg (by decide), if_neg (by decide), if_neg (by decide), if_neg (by decide), if_neg (by decide), if_neg (by decide)]
      exact g
    · refine Ends.cv l (by decide +kernel) (c_faulty624 l (by omega)) (fun q2 l2 _ _ _ g => ?_)
      refine Ends.eq (b857_209 l2 (by omega)) (Ends.eq (b857_397 l2 (by omega)) (Ends.sm (K _ ?_)))
      rw [bn (by decide) ek]; exact g
  · have eo := cases_ 5 15421 rfl e
    subst e eo
    refine Ends.b0 (fun z => absurd z (by decide)) (fun _ => Ends.b1 (fun _ => Ends.b0 (fun z => absurd z (by decide)) (fun _ => Ends.b1 (fun _ => Ends.b0 (fun ek => Ends.b1 (fun _ => Ends.b1 (fun _ => Ends.b1 (fun _ => Ends.b1 (fun _ => Ends.b1 (fun _ => Ends.b1 (fun z => absurd rfl z) (fun _ => ?_)) (fun z => absurd z (by decide))) (fun z => absurd z (by decide))) (fun z => absurd z (by decide))) (fun z => absurd z (by decide))) (fun z => absurd z (by decide))) (fun ek => ?_)) (fun z => absurd z (by decide)))) (fun z => absurd z (by decide)))
    · rw [cmpr (p := fun c => cond (tst 4 c 0) 0 1) (o := 15421) ⟨by decide, by decide, by decide⟩]
      refine Ends.cv l (by decide +kernel) (c_truth854 l (by omega) rfl) (fun q2 l2 _ _ _ g => ?_)
      refine Ends.eq (b857_357 l2 (by omega)) (Ends.eq (b857_397 l2 (by omega)) (Ends.sm (K _ ?_)))
      unfold fTwo
      rw [bk ek, if_neg (by decide), if_neg (by decide), if_neg (by decide), if_neg (by decide), if_neg (by decide), if_neg (by decide)]
      exact g
    · refine Ends.cv l (by decide +kernel) (c_faulty624 l (by omega)) (fun q2 l2 _ _ _ g => ?_)
      refine Ends.eq (b857_209 l2 (by omega)) (Ends.eq (b857_397 l2 (by omega)) (Ends.sm (K _ ?_)))
      rw [bn (by decide) ek]; exact g
  · have eo := cases_ 6 62 rfl e
    subst e eo
    refine Ends.b0 (fun z => absurd z (by decide)) (fun _ => Ends.b1 (fun _ => Ends.b0 (fun z => absurd z (by decide)) (fun _ => Ends.b1 (fun _ => Ends.b0 (fun ek => Ends.b1 (fun _ => Ends.b1 (fun _ => Ends.b1 (fun _ => Ends.b1 (fun _ => Ends.b1 (fun _ => Ends.b1 (fun _ => Ends.b1 (fun z => absurd rfl z) (fun _ => ?_)) (fun z => absurd z (by decide))) (fun z => absurd z (by decide))) (fun z => absurd z (by decide))) (fun z => absurd z (by decide))) (fun z => absurd z (by decide))) (fun z => absurd z (by decide))) (fun ek => ?_)) (fun z => absurd z (by decide)))) (fun z => absurd z (by decide)))
    · rw [cmpr (p := fun c => cond (tst 5 c 0) 0 1) (o := 62) ⟨by decide, by decide, by decide⟩]
      refine Ends.cv l (by decide +kernel) (c_truth854 l (by omega) rfl) (fun q2 l2 _ _ _ g => ?_)
      refine Ends.eq (b857_380 l2 (by omega)) (Ends.eq (b857_397 l2 (by omega)) (Ends.sm (K _ ?_)))
      unfold fTwo
      rw [bk ek, if_neg (by decide), if_neg (by decide), if_neg (by decide), if_neg (by decide), if_neg (by decide), if_neg (by decide)]
      exact g
    · refine Ends.cv l (by decide +kernel) (c_faulty624 l (by omega)) (fun q2 l2 _ _ _ g => ?_)
      refine Ends.eq (b857_209 l2 (by omega)) (Ends.eq (b857_397 l2 (by omega)) (Ends.sm (K _ ?_)))
      rw [bn (by decide) ek]; exact g
  · have eo := cases_ 7 15933 rfl e
    subst e eo
    refine Ends.b0 (fun z => absurd z (by decide)) (fun _ => Ends.b1 (fun _ => Ends.b0 (fun z => absurd z (by decide)) (fun _ => Ends.b1 (fun _ => Ends.b0 (fun ek => Ends.b1 (fun _ => Ends.b1 (fun _ => Ends.b1 (fun _ => Ends.b1 (fun _ => Ends.b1 (fun _ => Ends.b1 (fun _ => Ends.b1 (fun _ => ?_) (fun z => absurd z (by decide))) (fun z => absurd z (by decide))) (fun z => absurd z (by decide))) (fun z => absurd z (by decide))) (fun z => absurd z (by decide))) (fun z => absurd z (by decide))) (fun z => absurd z (by decide))) (fun ek => ?_)) (fun z => absurd z (by decide)))) (fun z => absurd z (by decide)))
    · rw [cmpr (p := fun c => cond (tst 2 c 0) 0 1) (o := 15933) ⟨by decide, by decide, by decide⟩]
      refine Ends.cv l (by decide +kernel) (c_truth854 l (by omega) rfl) (fun q2 l2 _ _ _ g => ?_)
      refine Ends.eq (b857_397 l2 (by omega)) (Ends.sm (K _ ?_))
      unfold fTwo
      rw [bk ek, if_neg (by decide), if_neg (by decide), if_neg (by decide), if_neg (by decide), if_neg (by decide), if_neg (by decide)]
      exact g
    · refine Ends.cv l (by decide +kernel) (c_faulty624 l (by omega)) (fun q2 l2 _ _ _ g => ?_)
      refine Ends.eq (b857_209 l2 (by omega)) (Ends.eq (b857_397 l2 (by omega)) (Ends.sm (K _ ?_)))
      rw [bn (by decide) ek]; exact g
  · have eo := cases_ 8 43 rfl e
    subst e eo
    refine Ends.b0 (fun z => absurd z (by decide)) (fun _ => Ends.b1 (fun _ => Ends.b0 (fun z => absurd z (by decide)) (fun _ => Ends.b1 (fun _ => Ends.b0 (fun ek => Ends.b1 (fun z => absurd rfl z) (fun _ => ?_)) (fun ek => ?_)) (fun z => absurd z (by decide)))) (fun z => absurd z (by decide)))
    · rw [mul64 (x := x.1) (y := y.2.1) (by omega) (by omega), mul64 (x := y.1) (y := x.2.1) (by omega) (by omega), mul64 (x := x.2.1) (y := y.2.1) (by omega) (by omega), add64 (x := x.1 * y.2.1) (y := y.1 * x.2.1) (by omega) (by omega)]
      refine Ends.cv l (by decide +kernel) (c_frac649 l (by omega) (by omega) (by omega) (by omega)) (fun q2 l2 _ _ _ g => ?_)
      refine Ends.eq (b857_239 l2 (by omega)) (Ends.eq (b857_397 l2 (by omega)) (Ends.sm (K _ ?_)))
      unfold fTwo
      rw [bk ek, if_neg (by decide), if_neg (by decide), if_pos rfl]
      exact g
    · refine Ends.cv l (by decide +kernel) (c_faulty624 l (by omega)) (fun q2 l2 _ _ _ g => ?_)
      refine Ends.eq (b857_209 l2 (by omega)) (Ends.eq (b857_397 l2 (by omega)) (Ends.sm (K _ ?_)))
      rw [bn (by decide) ek]; exact g
  · have eo := cases_ 9 45 rfl e
    subst e eo
    refine Ends.b0 (fun z => absurd z (by decide)) (fun _ => Ends.b1 (fun _ => Ends.b0 (fun z => absurd z (by decide)) (fun _ => Ends.b1 (fun _ => Ends.b0 (fun ek => Ends.b1 (fun _ => Ends.b1 (fun z => absurd rfl z) (fun _ => ?_)) (fun z => absurd z (by decide))) (fun ek => ?_)) (fun z => absurd z (by decide)))) (fun z => absurd z (by decide)))
    · rw [mul64 (x := x.1) (y := y.2.1) (by omega) (by omega), mul64 (x := y.1) (y := x.2.1) (by omega) (by omega), mul64 (x := x.2.1) (y := y.2.1) (by omega) (by omega), sub64 (x := x.1 * y.2.1) (y := y.1 * x.2.1) (by omega) (by omega)]
      refine Ends.cv l (by decide +kernel) (c_frac649 l (by omega) (by omega) (by omega) (by omega)) (fun q2 l2 _ _ _ g => ?_)
      refine Ends.eq (b857_269 l2 (by omega)) (Ends.eq (b857_397 l2 (by omega)) (Ends.sm (K _ ?_)))
      unfold fTwo
      rw [bk ek, if_neg (by decide), if_neg (by decide), if_neg (by decide), if_pos rfl]
      exact g
    · refine Ends.cv l (by decide +kernel) (c_faulty624 l (by omega)) (fun q2 l2 _ _ _ g => ?_)
      refine Ends.eq (b857_209 l2 (by omega)) (Ends.eq (b857_397 l2 (by omega)) (Ends.sm (K _ ?_)))
      rw [bn (by decide) ek]; exact g
  · have eo := cases_ 10 42 rfl e
    subst e eo
    rw [show cond (tst 1 ((10 : Nat) : Int) 10) (bop32 100 x.2.2.1 y.2.2.1) (bop32 96 x.2.2.1 y.2.2.1) = x.2.2.1 + y.2.2.1 from add32 (by omega) (by omega)]
    refine Ends.b0 (fun _ => ?_) (fun z => absurd rfl z)
    refine two_33 (s := 10) (t := true) l hd ox oy x0 y0 (Or.inl ⟨rfl, rfl⟩) ?_ K
    unfold fTwo
    rw [bz (by decide)]
    simp [fTim]
  · have eo := cases_ 11 47 rfl e
    subst e eo
    rw [show cond (tst 1 ((11 : Nat) : Int) 10) (bop32 100 x.2.2.1 y.2.2.1) (bop32 96 x.2.2.1 y.2.2.1) = x.2.2.1 - y.2.2.1 from sub32 (by omega) (by omega)]
    refine Ends.b0 (fun z => absurd z (by decide)) (fun _ => Ends.b1 (fun z => absurd rfl z) (fun _ => ?_))
    refine two_33 (s := 11) (t := false) l hd ox oy x0 y0 (Or.inr ⟨rfl, rfl⟩) ?_ K
    unfold fTwo
    rw [bz (by decide)]
    simp [fTim]
end MFRAC
