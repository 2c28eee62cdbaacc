/-! L3: Formulas: gcd, push, lay, fail, bad -/
section LCMP
variable {x y : Int} {t f : Option Rs} {Q : Rs → Prop}
theorem cmp64_neg : cmp64 x y < 0 ↔ x < y := by
  rcases Int.lt_trichotomy x y with q | q | q
  · rw [cmp64_lt q]; exact ⟨fun _ => q, fun _ => by decide⟩
  · rw [q, cmp64_eq]; exact ⟨fun z => absurd z (by decide), fun z => by omega⟩
  · rw [cmp64_gt q]; exact ⟨fun z => absurd z (by decide), fun z => by omega⟩
theorem cmp64_pos : 0 < cmp64 x y ↔ y < x := by
  rcases Int.lt_trichotomy x y with q | q | q
  · rw [cmp64_lt q]; exact ⟨fun z => absurd z (by decide), fun z => by omega⟩
  · rw [q, cmp64_eq]; exact ⟨fun z => absurd z (by decide), fun z => by omega⟩
  · rw [cmp64_gt q]; exact ⟨fun _ => q, fun _ => by decide⟩
theorem Ends.l0 (h1 : x = y → Ends t Q) (h2 : x ≠ y → Ends f Q) : Ends (brc 0 (cmp64 x y) 0 t f) Q := Ends.b0 (fun z => h1 (cmp64_z.mp z)) (fun z => h2 (fun e => z (cmp64_z.mpr e)))
theorem Ends.l1 (h1 : x ≠ y → Ends t Q) (h2 : x = y → Ends f Q) : Ends (brc 1 (cmp64 x y) 0 t f) Q := Ends.b1 (fun z => h1 (fun e => z (cmp64_z.mpr e))) (fun z => h2 (cmp64_z.mp z))
theorem Ends.l2 (h1 : x < y → Ends t Q) (h2 : y ≤ x → Ends f Q) : Ends (brc 2 (cmp64 x y) 0 t f) Q := Ends.b2 (fun z => h1 (cmp64_neg.mp z)) (fun z => h2 (Int.not_lt.mp (fun e => by have := cmp64_neg.mpr e; omega)))
theorem Ends.l3 (h1 : y ≤ x → Ends t Q) (h2 : x < y → Ends f Q) : Ends (brc 3 (cmp64 x y) 0 t f) Q := Ends.b3 (fun z => h1 (Int.not_lt.mp (fun e => by have := cmp64_neg.mpr e; omega))) (fun z => h2 (cmp64_neg.mp z))
theorem Ends.l4 (h1 : y < x → Ends t Q) (h2 : x ≤ y → Ends f Q) : Ends (brc 4 (cmp64 x y) 0 t f) Q := Ends.b4 (fun z => h1 (cmp64_pos.mp z)) (fun z => h2 (Int.not_lt.mp (fun e => by have := cmp64_pos.mpr e; omega)))
theorem Ends.l5 (h1 : x ≤ y → Ends t Q) (h2 : y < x → Ends f Q) : Ends (brc 5 (cmp64 x y) 0 t f) Q := Ends.b5 (fun z => h1 (Int.not_lt.mp (fun e => by have := cmp64_pos.mpr e; omega))) (fun z => h2 (cmp64_pos.mp z))
theorem tc3 : tst 3 (cmp64 x y) 0 = decide (y ≤ x) := by
  rw [tst3]
  by_cases q : x < y
  · rw [decide_eq_true (cmp64_neg.mpr q), decide_eq_false (by omega)]; rfl
  · rw [decide_eq_false (fun z => q (cmp64_neg.mp z)), decide_eq_true (by omega)]; rfl
theorem tc0 : tst 0 (cmp64 x y) 0 = decide (x = y) := by
  rw [tst0]
  by_cases q : x = y
  · rw [decide_eq_true (cmp64_z.mpr q), decide_eq_true q]
  · rw [decide_eq_false (fun z => q (cmp64_z.mp z)), decide_eq_false q]
theorem tc1 : tst 1 (cmp64 x y) 0 = !decide (x = y) := by
  rw [tst1]
  by_cases q : x = y
  · rw [decide_eq_true (cmp64_z.mpr q), decide_eq_true q]
  · rw [decide_eq_false (fun z => q (cmp64_z.mp z)), decide_eq_false q]
end LCMP
/-- the fraction number i of the pile -/
def frA (B : Nat) (h : AH) (i : Nat) : Fq := (hv h (B + 11) i, hv h (B + 12) i, hv h (B + 13) i, hv h (B + 14) i)
def plW (B k : Nat) : Nat → Nat → Prop := fun c z => (c = B + 7 ∧ z = 8) ∨ (B + 11 ≤ c ∧ c ≤ B + 14 ∧ k ≤ z)
theorem frA_agr {B i : Nat} {h t : AH} {W : Nat → Nat → Prop} (g : Agr W h t) (hW : ∀ c, B + 11 ≤ c → c ≤ B + 14 → ¬ W c i) : frA B t i = frA B h i := by
  unfold frA
  rw [g.at _ _ (hW _ (by omega) (by omega)), g.at _ _ (hW _ (by omega) (by omega)), g.at _ _ (hW _ (by omega) (by omega)), g.at _ _ (hW _ (by omega) (by omega))]
theorem plW_le {B k j : Nat} (h : k ≤ j) : ∀ c z, plW B j c z → plW B k c z := fun c z q => by
  rcases q with q | q
  · exact Or.inl q
  · exact Or.inr ⟨q.1, q.2.1, by omega⟩
theorem mulB {a c : Int} (ha : -1000000000 ≤ a ∧ a ≤ 1000000000) (hc : -1000000000 ≤ c ∧ c ≤ 1000000000) : -1000000000000000000 ≤ a * c ∧ a * c ≤ 1000000000000000000 := by
  have h1 : a.natAbs * c.natAbs ≤ 1000000000 * 1000000000 := Nat.mul_le_mul (by omega) (by omega)
  have h2 : (a * c).natAbs = a.natAbs * c.natAbs := Int.natAbs_mul a c
  omega
section LAY
variable {gv : Nat → Int} {B n d k : Nat} {h : AH} {a b kd : Int}
theorem lrem (x y : Int) : bop64 113 x y = w64 (x.tmod y) := rfl
theorem lmod {x y : Nat} (h : (y : Int) ≤ 4611686018427387904) (h0 : 0 < y) : bop64 113 (x : Int) (y : Int) = ((x % y : Nat) : Int) := by
  have hlt : x % y < y := Nat.mod_lt _ h0
  rw [lrem, Int.tmod_eq_emod_of_nonneg (by omega), ← Int.natCast_emod]
  exact w64_id ⟨by omega, by omega⟩
theorem c_gcd (l : LX B n h) (hd : 10 ≤ d) (h1 : -4611686018427387904 ≤ a ∧ a ≤ 4611686018427387904) (h2 : -4611686018427387904 ≤ b ∧ b ≤ 4611686018427387904) : Vt 1 (cll PP (ev PP (gsF gv) B) d 199 [(1, a), (1, b)] h) (fun v h' => v = (Int.gcd a b : Int) ∧ h' = h) := by
  refine Vt.into (D := 9) hd (Nat.le_of_ble_eq_true rfl) rfl (fun d hd => ?_)
  refine Ends.eq (b199_0 (n := n) (by decide) l (by omega)) ?_
  rw [abs64 (by omega) (by omega), abs64 (by omega) (by omega)]
  refine lpm (fun (v : Nat × Nat) => v.2) (fun (v : Nat × Nat) L q => ∃ u1 u3 u5 u7 u8 u9 : AV, L = [(1, a), u1, (1, b), u3, (1, (((v.1 : Nat) : Int))), u5, (1, (((v.2 : Nat) : Int))), u7, u8, u9] ∧ ¬ u3.1 = 1 ∧ ¬ u7.1 = 1 ∧ LX B n q ∧ q = h ∧ Nat.gcd v.1 v.2 = Int.gcd a b ∧ ((v.1 : Nat) : Int) ≤ 4611686018427387904 ∧ ((v.2 : Nat) : Int) ≤ 4611686018427387904) ?_ ((a.natAbs, b.natAbs)) ⟨_, _, _, _, _, _, rfl, (by first | assumption | decide), (by first | assumption | decide), (by (repeat' first | assumption | refine LX.setF _ _ ?_ (by decide +kernel) | refine LX.setS ?_ rfl | refine LX.setA ?_ (by assumption))), ?_⟩
  · rintro v _ q ⟨uq0, uq1, uq2, uq3, uq4, uq5, rfl, nuq0, nuq1, lq, ⟨e1, e2, e3, e4⟩⟩ ihv
    obtain ⟨x, y⟩ := v
    subst e1
    refine Ends.eq (b199_12 (n := n) (by assumption) (by assumption) lq (by omega)) ?_
    have e2 : Nat.gcd x y = Int.gcd a b := e2
    have e3 : ((x : Nat) : Int) ≤ 4611686018427387904 := e3
    have e4 : ((y : Nat) : Int) ≤ 4611686018427387904 := e4
    dsimp only
    refine Ends.l0 (fun z => ?_) (fun z => Ends.g (fun w => z w) ?_)
    · obtain rfl : y = 0 := by omega
      rw [Nat.gcd_zero_right] at e2
      exact Ends.sm ⟨_, _, rfl, by rw [e2], rfl⟩
    · rw [lmod e4 (by omega)]
      have hlt : x % y < y := Nat.mod_lt _ (by omega)
      refine ihv ((y, x % y)) _ _ ?_ ⟨_, _, _, _, _, _, rfl, (by first | assumption | decide), (by first | assumption | decide), (by (repeat' first | assumption | refine LX.setF _ _ ?_ (by decide +kernel) | refine LX.setS ?_ rfl | refine LX.setA ?_ (by assumption))), ?_⟩
      · exact hlt
      · refine ⟨rfl, ?_, by show ((y : Nat) : Int) ≤ _; omega, by show ((x % y : Nat) : Int) ≤ _; omega⟩
        rw [← e2, Nat.gcd_comm y, ← Nat.gcd_rec]; exact Nat.gcd_comm ..
  · exact ⟨rfl, rfl, by show ((a.natAbs : Nat) : Int) ≤ _; omega, by show ((b.natAbs : Nat) : Int) ≤ _; omega⟩
theorem c_push (l : LX B n h) (hd : 10 ≤ d) (h8 : hv h (B + 7) 8 = (k : Int)) (hk : k < 200) {f : Int} : Vd (cll PP (ev PP (gsF gv) B) d 215 [(2, rf (B + 7)), (1, a), (1, b), (0, kd), (0, f)] h) (fun h' => Agr (plW B k) h h' ∧ hv h' (B + 7) 8 = ((k + 1 : Nat) : Int) ∧ frA B h' k = (a, b, kd, f)) := by
  refine Vd.into (D := 9) hd (Nat.le_of_ble_eq_true rfl) rfl (fun d hd => ?_)
  refine Ends.eq (b215_0 (n := n) (by (repeat' first | assumption | refine LX.setF _ _ ?_ (by decide +kernel) | refine LX.setS ?_ rfl | refine LX.setA ?_ (by first | assumption | omega))) (by first | assumption | omega)) ?_
  rw [h8, tn, b96_1 (by omega), an1, an1, an0, an0]
  refine Ends.g ⟨by omega, by omega⟩ (Ends.sm ⟨_, rfl, ?_, hv_set_at .., ?_⟩)
  · exact ((((Agr.rf.set (Or.inr ⟨by omega, by omega, Nat.le_refl _⟩)).set (Or.inr ⟨by omega, by omega, Nat.le_refl _⟩)).set (Or.inr ⟨by omega, by omega, Nat.le_refl _⟩)).set (Or.inr ⟨by omega, by omega, Nat.le_refl _⟩)).set (Or.inl ⟨rfl, rfl⟩)
  · unfold frA
    have e1 : ∀ (q : AH) (c : Nat) (v : Int), c ≠ B + 7 → hv (hset q (B + 7) 8 v) c k = hv q c k := fun q c v hc => hv_na hc
    rw [e1 _ _ _ (by omega), e1 _ _ _ (by omega), e1 _ _ _ (by omega), e1 _ _ _ (by omega)]
    rw [hv_na (by omega), hv_na (by omega), hv_na (by omega), hv_set_at, hv_na (by omega), hv_na (by omega), hv_set_at, hv_na (by omega), hv_set_at, hv_set_at]
theorem gcd_pos (hb : b ≠ 0) : 0 < (Int.gcd a b : Int) ∧ (Int.gcd a b : Int) ∣ a ∧ (Int.gcd a b : Int) ∣ b := by
  have : Int.gcd a b ≠ 0 := fun z => hb (Int.gcd_eq_zero_iff.mp z).2
  exact ⟨by omega, Int.gcd_dvd_left .., Int.gcd_dvd_right ..⟩
theorem ldvd {x g : Int} (h1 : -4611686018427387904 ≤ x ∧ x ≤ 4611686018427387904) (hg : 0 < g) (hd : g ∣ x) : bop64 109 x g = x / g := by
  show w64 (x.tdiv g) = _
  rw [Int.tdiv_eq_ediv_of_dvd hd]
  have := ldiv_b h1.1 h1.2 hg
  exact w64_id ⟨by omega, by omega⟩
theorem lay_n (h1 : -4611686018427387904 ≤ a ∧ a ≤ 4611686018427387904) (hb : b ≠ 0) : cond (tst 3 (cmp64 b 0) 0) (bop64 109 a (Int.gcd a b : Int)) (bop64 109 (uop 1 a) (Int.gcd a b : Int)) = mN a b := by
  unfold mN
  obtain ⟨g1, g2, g3⟩ := gcd_pos (a := a) hb
  rw [tc3, neg64 (by omega) (by omega), ldvd h1 g1 g2, ldvd (by omega) g1 (Int.dvd_neg.mpr g2)]
  by_cases q : b < 0
  · rw [if_pos q, decide_eq_false (by omega)]; rfl
  · rw [if_neg q, decide_eq_true (by omega)]; rfl
theorem lay_d (h2 : -4611686018427387904 ≤ b ∧ b ≤ 4611686018427387904) (hb : b ≠ 0) : v887 (bop64 109 b (Int.gcd a b : Int)) = mD a b := by
  unfold mD
  obtain ⟨g1, g2, g3⟩ := gcd_pos (a := a) hb
  have bd := ldiv_b h2.1 h2.2 g1
  rw [ldvd h2 g1 g3, abs64 (by omega) (by omega)]
  by_cases q : b < 0
  · rw [if_pos q, Int.neg_ediv_of_dvd g3]
    have h := Int.ediv_nonneg (show 0 ≤ -b by omega) (show 0 ≤ (Int.gcd a b : Int) by omega)
    rw [Int.neg_ediv_of_dvd g3] at h
    omega
  · rw [if_neg q]
    have : 0 ≤ b / (Int.gcd a b : Int) := Int.ediv_nonneg (by omega) (by omega)
    omega
theorem c_lay (l : LX B n h) (hd : 12 ≤ d) (h8 : hv h (B + 7) 8 = (k : Int)) (hk : k < 200) (h1 : -4611686018427387904 ≤ a ∧ a ≤ 4611686018427387904) (h2 : -4611686018427387904 ≤ b ∧ b ≤ 4611686018427387904) (hb : b ≠ 0) :
    Vd (cll PP (ev PP (gsF gv) B) d 205 [(2, rf (B + 7)), (1, a), (1, b), (0, kd)] h) (fun h' => Agr (plW B k) h h' ∧ hv h' (B + 7) 8 = ((k + 1 : Nat) : Int) ∧ frA B h' k = mkF a b kd) := by
  obtain ⟨g1, g2, g3⟩ := gcd_pos (a := a) hb
  refine Vd.into (D := 11) hd (Nat.le_of_ble_eq_true rfl) rfl (fun d hd => ?_)
  refine Ends.eq (b205_0 (n := n) (by (repeat' first | assumption | refine LX.setF _ _ ?_ (by decide +kernel) | refine LX.setS ?_ rfl | refine LX.setA ?_ (by first | assumption | omega))) (by first | assumption | omega)) ?_
  refine Ends.ct l (by decide +kernel) (by decide) (c_gcd l (by omega) h1 h2) (fun v q1 l1 _ _ _ ⟨ev, eh⟩ => ?_)
  subst ev eh
  refine Ends.eq (b205_5 (n := n) (by (repeat' first | assumption | refine LX.setF _ _ ?_ (by decide +kernel) | refine LX.setS ?_ rfl | refine LX.setA ?_ (by first | assumption | omega))) (by first | assumption | omega)) ?_
  rw [lay_n h1 hb, lay_d h2 hb]
  have hg : (Int.gcd a b : Int) ≠ 0 := by omega
  refine Ends.g (by cases tst 3 (cmp64 b 0) 0 <;> exact hg) (Ends.g hg ?_)
  have bad : ∀ (x6 x8 x10 : Int) (u2 u4 u7 u9 u11 : AV), mkF a b kd = flt 3 → Ends (ev PP (gsF gv) B d 205 63 [(2, rf (B + 7)), (1, a), u2, (1, b), u4, (0, kd), (1, x6), u7, (1, x8), u9, (1, x10), u11] [] q1) (fun r => ∃ h', r = ((0, (9, 0)), h') ∧ Agr (plW B k) q1 h' ∧ hv h' (B + 7) 8 = ((k + 1 : Nat) : Int) ∧ frA B h' k = mkF a b kd) := by
    intro x6 x8 x10 u2 u4 u7 u9 u11 em
    refine Ends.eq (b205_63 (n := n) (by (repeat' first | assumption | refine LX.setF _ _ ?_ (by decide +kernel) | refine LX.setS ?_ rfl | refine LX.setA ?_ (by first | assumption | omega))) (by first | assumption | omega)) ?_
    refine Ends.cv l (by decide +kernel) (c_push l (by omega) h8 hk) (fun q2 l2 _ _ _ ⟨e1, e2, e3⟩ => ?_)
    refine Ends.eq (b205_71 (n := n) (by (repeat' first | assumption | refine LX.setF _ _ ?_ (by decide +kernel) | refine LX.setS ?_ rfl | refine LX.setA ?_ (by first | assumption | omega))) (by first | assumption | omega)) ?_
    refine Ends.eq (b205_85 (n := n) (by (repeat' first | assumption | refine LX.setF _ _ ?_ (by decide +kernel) | refine LX.setS ?_ rfl | refine LX.setA ?_ (by first | assumption | omega))) (by first | assumption | omega)) ?_
    exact Ends.sm ⟨_, rfl, e1, e2, by rw [e3, em]; rfl⟩
  refine Ends.l4 (fun z => bad _ _ _ _ _ _ _ _ ?_) (fun z1 => Ends.l2 (fun z => bad _ _ _ _ _ _ _ _ ?_) (fun z2 => Ends.l5 (fun z3 => ?_) (fun z => bad _ _ _ _ _ _ _ _ ?_)))
  · unfold mkF; rw [if_pos (Or.inl z)]
  · unfold mkF; rw [if_pos (Or.inr (Or.inl z))]
  · refine Ends.cv l (by decide +kernel) (c_push l (by omega) h8 hk) (fun q2 l2 _ _ _ ⟨e1, e2, e3⟩ => ?_)
    refine Ends.eq (b205_85 (n := n) (by (repeat' first | assumption | refine LX.setF _ _ ?_ (by decide +kernel) | refine LX.setS ?_ rfl | refine LX.setA ?_ (by first | assumption | omega))) (by first | assumption | omega)) ?_
    refine Ends.sm ⟨_, rfl, e1, e2, ?_⟩
    rw [e3]
    unfold mkF
    rw [if_neg (fun w => by rcases w with w | w | w <;> omega)]
  · unfold mkF; rw [if_pos (Or.inr (Or.inr z))]
theorem c_fail (l : LX B n h) (hd : 11 ≤ d) (h8 : hv h (B + 7) 8 = (k : Int)) (hk : k < 200) {f : Int} : Vd (cll PP (ev PP (gsF gv) B) d 194 [(2, rf (B + 7)), (0, f)] h) (fun h' => Agr (plW B k) h h' ∧ hv h' (B + 7) 8 = ((k + 1 : Nat) : Int) ∧ frA B h' k = flt f) := by
  refine Vd.into (D := 10) hd (Nat.le_of_ble_eq_true rfl) rfl (fun d hd => ?_)
  refine Ends.eq (b194_0 (n := n) (by (repeat' first | assumption | refine LX.setF _ _ ?_ (by decide +kernel) | refine LX.setS ?_ rfl | refine LX.setA ?_ (by first | assumption | omega))) (by first | assumption | omega)) ?_
  refine Ends.cv l (by decide +kernel) (c_push l (by omega) h8 hk) (fun q2 l2 _ _ _ ⟨e1, e2, e3⟩ => ?_)
  refine Ends.eq (b194_8 (n := n) (by (repeat' first | assumption | refine LX.setF _ _ ?_ (by decide +kernel) | refine LX.setS ?_ rfl | refine LX.setA ?_ (by first | assumption | omega))) (by first | assumption | omega)) ?_
  exact Ends.sm ⟨_, rfl, e1, e2, e3⟩
theorem FOK.mk (hb : b ≠ 0) (h1 : -4 ≤ kd) (h2 : kd ≤ 4) : FOK (mkF a b kd) := by
  obtain ⟨g1, g2, g3⟩ := gcd_pos (a := a) hb
  unfold mkF
  split
  · exact FOK.flt (f := 3) (by decide) (by decide)
  · next hn =>
    refine Or.inl ⟨rfl, by show _ ≤ mN a b; omega, by show mN a b ≤ _; omega, ?_, by show mD a b ≤ _; omega, h1, h2, ?_⟩
    · show 1 ≤ mD a b
      unfold mD
      refine Int.le_ediv_of_mul_le g1 ?_
      rw [Int.one_mul]
      by_cases q : b < 0
      · rw [if_pos q]; exact Int.le_of_dvd (by omega) (Int.dvd_neg.mpr g3)
      · rw [if_neg q]; exact Int.le_of_dvd (by omega) g3
    · show Int.gcd (mN a b) (mD a b) = 1
      unfold mN mD
      have e : Int.gcd (if b < 0 then -a else a) (if b < 0 then -b else b) = Int.gcd a b := by
        by_cases q : b < 0
        · rw [if_pos q, if_pos q, Int.neg_gcd, Int.gcd_neg]
        · rw [if_neg q, if_neg q]
      rw [← e]
      exact Int.gcd_ediv_gcd_ediv_gcd (by rw [e]; omega)
end LAY
