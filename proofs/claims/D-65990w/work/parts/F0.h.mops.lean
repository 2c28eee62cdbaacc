/-! L3: functions of fractions (model) -/
section MOPS
variable {gv : Nat → Int} {B n d : Nat} {h : AH} {x y z : Fq} {a b : Int}
theorem v641_pos (h1 : -4611686018427387904 ≤ a ∧ a ≤ 4611686018427387904) (h0 : 0 < b) (h2 : b ≤ 4611686018427387904) : v641 a b = a / b := by
  have q := ldiv_b h1.1 h1.2 h0
  obtain ⟨p1, p2⟩ := tdm (x := a) (y := b) h0
  have m1 : bop64 113 a b = w64 (a.tmod b) := rfl
  have m2 : bop64 109 a b = w64 (a.tdiv b) := rfl
  have e0 := Int.emod_nonneg a (show b ≠ 0 by omega)
  have e1 := Int.emod_lt_of_pos a h0
  unfold v641
  rw [m1, m2]
  by_cases z : a < 0
  · by_cases z2 : a % b = 0
    · obtain ⟨t1, t2⟩ := (p2 z).1 z2
      rw [t1, t2, ct0, show w64 0 = 0 from rfl, if_pos cmp64_eq]
      exact w64_id ⟨by omega, by omega⟩
    · obtain ⟨t1, t2, -⟩ := (p2 z).2 z2
      rw [t1, t2, w64_id (x := a % b - b) ⟨by omega, by omega⟩, w64_id (x := a / b + 1) ⟨by omega, by omega⟩, ct0, if_neg (fun w => by have := cmp64_z.mp w; omega), ct3, if_pos (cmp64_neg.mpr z), ct3, if_neg (fun w => by have := cmp64_neg.mp w; omega), ct0, if_neg (by decide), sub64 (by omega) (by omega)]
      omega
  · obtain ⟨t1, t2⟩ := p1 (by omega)
    rw [t1, t2, w64_id (x := a / b) ⟨by omega, by omega⟩, ct3, if_neg (fun w => z (cmp64_neg.mp w)), ct3, if_neg (fun w => by have := cmp64_neg.mp w; omega), ct0, ct0]
    split <;> rfl
theorem v641_neg (h1 : -4611686018427387904 ≤ a ∧ a ≤ 4611686018427387904) (h0 : b < 0) (h2 : -4611686018427387904 ≤ b) : v641 a b = (-a) / (-b) := by
  have q := ldiv_b (x := -a) (y := -b) (by omega) (by omega) (by omega)
  obtain ⟨p1, p2⟩ := tdm (x := -a) (y := -b) (by omega)
  have f1 : (-a).tdiv (-b) = a.tdiv b := by rw [Int.neg_tdiv, Int.tdiv_neg, Int.neg_neg]
  have f2 : (-a).tmod (-b) = -(a.tmod b) := by rw [Int.neg_tmod, Int.tmod_neg]
  rw [f1, f2] at p1 p2
  have m1 : bop64 113 a b = w64 (a.tmod b) := rfl
  have m2 : bop64 109 a b = w64 (a.tdiv b) := rfl
  have e0 := Int.emod_nonneg (-a) (show -b ≠ 0 by omega)
  have e1 := Int.emod_lt_of_pos (-a) (show 0 < -b by omega)
  unfold v641
  rw [m1, m2]
  by_cases z : 0 < a
  · by_cases z2 : (-a) % (-b) = 0
    · obtain ⟨t1, t2⟩ := (p2 (by omega)).1 z2
      rw [t1, show a.tmod b = 0 by omega, ct0, show w64 0 = 0 from rfl, if_pos cmp64_eq]
      exact w64_id ⟨by omega, by omega⟩
    · obtain ⟨t1, t2, -⟩ := (p2 (by omega)).2 z2
      rw [t1, show a.tmod b = -b - (-a) % (-b) by omega, w64_id (x := -b - (-a) % (-b)) ⟨by omega, by omega⟩, w64_id (x := (-a) / (-b) + 1) ⟨by omega, by omega⟩, ct0, if_neg (fun w => by have := cmp64_z.mp w; omega), ct3, if_neg (fun w => by have := cmp64_neg.mp w; omega), ct3, if_pos (cmp64_neg.mpr h0), ct0, if_neg (by decide), sub64 (by omega) (by omega)]
      omega
  · obtain ⟨t1, t2⟩ := p1 (by omega)
    rw [t1, w64_id (x := (-a) / (-b)) ⟨by omega, by omega⟩, ct0]
    by_cases z3 : a = 0
    · subst z3
      rw [show (0 : Int).tmod b = 0 from Int.zero_tmod b, show w64 0 = 0 from rfl, if_pos cmp64_eq]
    · rw [ct3, if_pos (cmp64_neg.mpr (show a < 0 by omega)), ct3, if_pos (cmp64_neg.mpr h0), ct0, if_pos rfl]
      split <;> rfl
/-- a quotient of fractions, downwards; what is left -/
theorem v641_fq (ox : FOK x) (oy : FOK y) (x0 : x.2.2.2 = 0) (y0 : y.2.2.2 = 0) (hz : y.1 ≠ 0) : v641 (x.1 * y.2.1) (y.1 * x.2.1) = dvA x y / dvB x y ∧ v642 (x.1 * y.2.1) (y.1 * x.2.1) = if y.1 < 0 then -(dvA x y % dvB x y) else dvA x y % dvB x y := by
  obtain ⟨m1, m2, m3, m4, m5⟩ := fqB ox oy x0 y0
  obtain ⟨a1, a2, a3, a4⟩ := ox.b x0
  have k2 : v642 (x.1 * y.2.1) (y.1 * x.2.1) = bop64 101 (x.1 * y.2.1) (bop64 105 (y.1 * x.2.1) (v641 (x.1 * y.2.1) (y.1 * x.2.1))) := rfl
  by_cases s : y.1 < 0
  · have n2 : y.1 * x.2.1 < 0 := Int.mul_neg_of_neg_of_pos s (by omega)
    have eA : dvA x y = -(x.1 * y.2.1) := by unfold dvA; rw [if_pos s, Int.neg_mul]
    have eB : dvB x y = -(y.1 * x.2.1) := by
      unfold dvB
      rw [show ((y.1.natAbs : Nat) : Int) = -y.1 by omega, Int.mul_neg, Int.mul_comm]
    have e1 := v641_neg (a := x.1 * y.2.1) (b := y.1 * x.2.1) (by omega) n2 (by omega)
    have d1 := Int.mul_ediv_add_emod (-(x.1 * y.2.1)) (-(y.1 * x.2.1))
    have d2 := Int.emod_nonneg (-(x.1 * y.2.1)) (show -(y.1 * x.2.1) ≠ 0 by omega)
    have d3 := Int.emod_lt_of_pos (-(x.1 * y.2.1)) (show 0 < -(y.1 * x.2.1) by omega)
    refine ⟨by rw [e1, eA, eB], ?_⟩
    rw [k2, e1, if_pos s, eA, eB]
    rw [Int.neg_mul] at d1
    rw [mul64 (x := y.1 * x.2.1) (y := -(x.1 * y.2.1) / -(y.1 * x.2.1)) (by omega) (by omega), sub64 (by omega) (by omega)]
    omega
  · have n2 : 0 < y.1 * x.2.1 := Int.mul_pos (by omega) (by omega)
    have eA : dvA x y = x.1 * y.2.1 := by unfold dvA; rw [if_neg s]
    have eB : dvB x y = y.1 * x.2.1 := by
      unfold dvB
      rw [show ((y.1.natAbs : Nat) : Int) = y.1 by omega, Int.mul_comm]
    have e1 := v641_pos (a := x.1 * y.2.1) (b := y.1 * x.2.1) (by omega) n2 (by omega)
    have d1 := Int.mul_ediv_add_emod (x.1 * y.2.1) (y.1 * x.2.1)
    have d2 := Int.emod_nonneg (x.1 * y.2.1) (show y.1 * x.2.1 ≠ 0 by omega)
    have d3 := Int.emod_lt_of_pos (x.1 * y.2.1) n2
    refine ⟨by rw [e1, eA, eB], ?_⟩
    rw [k2, e1, if_neg s, eA, eB]
    rw [mul64 (x := y.1 * x.2.1) (y := x.1 * y.2.1 / (y.1 * x.2.1)) (by omega) (by omega), sub64 (by omega) (by omega)]
    omega
theorem c_one770 {f : Nat} (l : LX B n h) (hd : 15 ≤ d) (h5 : 5 ≤ f) (h10 : f ≤ 10) (ox : FOK x) (x0 : x.2.2.2 = 0) (hx : frM B h = x) : Vd (cll PP (ev PP (gsF gv) B) d 770 [(2, rf (B + 149)), (0, (f : Int))] h) (fun h' => MPut B h (fAlone f x) h') := by
  obtain ⟨a1, a2, a3, a4⟩ := ox.b x0
  have f1 : hv h (B + 149) 23 = x.1 := by rw [← hx]; rfl
  have f2 : hv h (B + 149) 24 = x.2.1 := by rw [← hx]; rfl
  have f3 : hv h (B + 149) 25 = x.2.2.1 := by rw [← hx]; rfl
  have f4 : hv h (B + 149) 26 = 0 := by rw [← x0, ← hx]; rfl
  have dvb : ∀ (p q : Int), 0 < q → p / q ≤ p ∨ p / q ≤ 0 := fun p q hq => by
    rcases Int.le_total 0 p with w | w
    · left; exact Int.ediv_le_self q w
    · right
      have := Int.ediv_le_ediv hq w
      rw [Int.zero_ediv] at this
      exact this
  have q1 := ldiv_b (x := x.1) (y := x.2.1) (by omega) (by omega) (by omega)
  have q2 := ldiv_b (x := -x.1) (y := x.2.1) (by omega) (by omega) (by omega)
  have q3 := ldiv_b (x := 2 * x.1 + x.2.1) (y := 2 * x.2.1) (by omega) (by omega) (by omega)
  refine Vd.inq (D := 14) hd (Nat.le_of_ble_eq_true rfl) rfl (fun d hd Q K => ?_)
  refine Ends.eq (b770_0 l (by omega)) ?_
  rw [f1, f2]
  have alone : fAlone f x = if f = 5 then ((x.1.natAbs : Int), x.2.1, x.2.2.1, 0) else if f = 6 then mkF (x.1 / x.2.1) 1 x.2.2.1 else if f = 7 then mkF (-((-x.1) / x.2.1)) 1 x.2.2.1 else if f = 8 then mkF ((2 * x.1 + x.2.1) / (2 * x.2.1)) 1 x.2.2.1 else if f = 9 then mkF (if x.1 < 0 then -1 else if x.1 = 0 then 0 else 1) 1 0 else fTim x.1 x.2.1 x.1 x.2.1 (2 * x.2.2.1) := by
    unfold fAlone
    rw [if_neg (by omega)]
  rw [alone] at K
  rcases (by omega : f = 5 ∨ f = 6 ∨ f = 7 ∨ f = 8 ∨ f = 9 ∨ f = 10) with e | e | e | e | e | e <;> subst e
  · show Ends (ev PP (gsF gv) B d 770 48 _ [] h) Q
    refine Ends.eq (b770_48 l (by omega)) ?_
    have l2 : LX B n (hset h (B + 149) 23 (cond (tst 3 (cmp64 x.1 0) 0) x.1 (uop 1 x.1))) := LX.setF 149 23 l (by decide +kernel)
    refine Ends.eq (b770_213 l2 (by omega)) (Ends.sm (K _ ⟨Agr.rf.set ⟨rfl, by decide, by decide⟩, ?_⟩))
    have ea : cond (tst 3 (cmp64 x.1 0) 0) x.1 (uop 1 x.1) = ((x.1.natAbs : Nat) : Int) := by
      rw [ct3]
      by_cases w : x.1 < 0
      · rw [if_pos (cmp64_neg.mpr w), neg64 (by omega) (by omega)]; omega
      · rw [if_neg (fun u => w (cmp64_neg.mp u))]; omega
    rw [if_pos rfl, ea]
    unfold frM
    rw [hv_set_at, hv_set_ne (by omega), hv_set_ne (by omega), hv_set_ne (by omega), f2, f3, f4]
  · show Ends (ev PP (gsF gv) B d 770 67 _ [] h) Q
    refine Ends.eq (b770_67 l (by omega)) (Ends.g (show q641 _ _ from by unfold q641; omega) ?_)
    rw [v641_pos (by omega) (by omega) (by omega), f3]
    refine Ends.cv l (by decide +kernel) (c_frac649 l (by omega) q1 (by decide) (by decide)) (fun q2 l2 _ _ _ g => ?_)
    exact Ends.eq (b770_82 l2 (by omega)) (Ends.eq (b770_213 l2 (by omega)) (Ends.sm (K _ g)))
  · show Ends (ev PP (gsF gv) B d 770 85 _ [] h) Q
    refine Ends.eq (b770_85 l (by omega)) (Ends.g (show q641 _ _ from by unfold q641; omega) ?_)
    rw [neg64 (x := x.1) (by omega) (by omega), v641_pos (by omega) (by omega) (by omega), neg64 (x := -x.1 / x.2.1) (by omega) (by omega), f3]
    refine Ends.cv l (by decide +kernel) (c_frac649 l (by omega) (by omega) (by decide) (by decide)) (fun q2 l2 _ _ _ g => ?_)
    exact Ends.eq (b770_102 l2 (by omega)) (Ends.eq (b770_213 l2 (by omega)) (Ends.sm (K _ g)))
  · show Ends (ev PP (gsF gv) B d 770 105 _ [] h) Q
    refine Ends.eq (b770_105 l (by omega)) ?_
    rw [mul64 (x := 2) (y := x.1) (by omega) (by omega), mul64 (x := 2) (y := x.2.1) (by omega) (by omega), add64 (x := 2 * x.1) (y := x.2.1) (by omega) (by omega)]
    refine Ends.g (show q641 _ _ from by unfold q641; omega) ?_
    rw [v641_pos (by omega) (by omega) (by omega), f3]
    refine Ends.cv l (by decide +kernel) (c_frac649 l (by omega) q3 (by decide) (by decide)) (fun q2 l2 _ _ _ g => ?_)
    exact Ends.eq (b770_131 l2 (by omega)) (Ends.eq (b770_213 l2 (by omega)) (Ends.sm (K _ g)))
  · show Ends (ev PP (gsF gv) B d 770 134 _ [] h) Q
    have es : cond (tst 3 (cmp64 x.1 0) 0) (cond (tst 5 (cmp64 x.1 0) 0) (0 : Int) 1) (-1) = if x.1 < 0 then -1 else if x.1 = 0 then 0 else 1 := by
      rw [ct3, ct5]
      by_cases w : x.1 < 0
      · rw [if_pos (cmp64_neg.mpr w), if_pos w]
      · rw [if_neg (fun u => w (cmp64_neg.mp u)), if_neg w]
        by_cases w2 : x.1 = 0
        · rw [if_neg (fun u => by have := cmp64_pos.mp u; omega), if_pos w2]
        · rw [if_pos (cmp64_pos.mpr (by omega)), if_neg w2]
    refine Ends.eq (b770_134 l (by omega)) ?_
    rw [es]
    refine Ends.cv l (by decide +kernel) (c_frac649 l (by omega) (by split <;> (try split) <;> decide) (by decide) (by decide)) (fun q2 l2 _ _ _ g => ?_)
    exact Ends.eq (b770_163 l2 (by omega)) (Ends.eq (b770_213 l2 (by omega)) (Ends.sm (K _ g)))
  · show Ends (ev PP (gsF gv) B d 770 166 _ [] h) Q
    have m1 := mulB a1 a1
    have m2 := mulB (a := x.2.1) (c := x.2.1) (by omega) (by omega)
    have m3 : 0 < x.2.1 * x.2.1 := Int.mul_pos (by omega) (by omega)
    have bad : 2 * x.2.2.1 < -4 ∨ 4 < 2 * x.2.2.1 → Ends (ev PP (gsF gv) B d 770 187 [(2, rf (B + 149)), (0, ((10 : Nat) : Int)), (1, x.1), (9, 0), (1, x.2.1), (9, 0)] [] h) Q := fun w => by
      refine Ends.eq (b770_187 l (by omega)) ?_
      refine Ends.cv l (by decide +kernel) (c_faulty624 l (by omega)) (fun q2 l2 _ _ _ g => ?_)
      refine Ends.eq (b770_192 l2 (by omega)) (Ends.eq (b770_213 l2 (by omega)) (Ends.sm (K _ ?_)))
      rw [if_neg (by decide), if_neg (by decide), if_neg (by decide), if_neg (by decide), if_neg (by decide)]
      unfold fTim
      rw [if_pos w]; exact g
    refine Ends.eq (b770_166 l (by omega)) ?_
    rw [f3, mul32 (x := 2) (y := x.2.2.1) (by omega) (by omega)]
    refine Ends.b4 (fun w => bad (Or.inr w)) (fun w => Ends.b3 (fun w2 => ?_) (fun w2 => bad (Or.inl w2)))
    rw [mul64 (x := x.1) (y := x.1) (by omega) (by omega), mul64 (x := x.2.1) (y := x.2.1) (by omega) (by omega)]
    refine Ends.cv l (by decide +kernel) (c_frac649 l (by omega) (by omega) (by omega) (by omega)) (fun q2 l2 _ _ _ g => ?_)
    refine Ends.eq (b770_213 l2 (by omega)) (Ends.sm (K _ ?_))
    rw [if_neg (by decide), if_neg (by decide), if_neg (by decide), if_neg (by decide), if_neg (by decide)]
    unfold fTim
    rw [if_neg (by omega)]; exact g
theorem ordF_is (ox : FOK x) (oy : FOK y) (x0 : x.2.2.2 = 0) (y0 : y.2.2.2 = 0) : v773 x.1 x.2.1 y.1 y.2.1 = ordF x y := by
  obtain ⟨a1, a2, -, -⟩ := ox.b x0
  obtain ⟨c1, c2, -, -⟩ := oy.b y0
  exact v773_is a1 a2 c1 c2
theorem c_middle751 (l : LX B n h) (hd : 15 ≤ d) (ox : FOK x) (oy : FOK y) (oz : FOK z) (x0 : x.2.2.2 = 0) (y0 : y.2.2.2 = 0) (z0 : z.2.2.2 = 0) (k1 : x.2.2.1 = y.2.2.1) (k2 : x.2.2.1 = z.2.2.1) (h25 : hv h (B + 149) 25 = z.2.2.1) : Vd (cll PP (ev PP (gsF gv) B) d 751 [(2, rf (B + 149)), (1, x.1), (1, x.2.1), (1, y.1), (1, y.2.1), (1, z.1), (1, z.2.1)] h) (fun h' => MPut B h (fThree x y z) h') := by
  obtain ⟨a1, a2, a3, -⟩ := ox.b x0
  obtain ⟨c1, c2, -, -⟩ := oy.b y0
  obtain ⟨e1, e2, -, -⟩ := oz.b z0
  have f3 : fThree x y z = if 0 < ordF x y then (if 0 < ordF z y then (if ordF z x < 0 then k0 z else k0 x) else k0 y) else (if 0 < ordF z x then (if ordF z y < 0 then k0 z else k0 y) else k0 x) := by
    have : bd3 x y z = 0 := by
      unfold bd3
      rw [if_neg (by omega), if_neg (by omega), if_neg (by omega), if_neg (by omega), if_neg (by omega)]
    unfold fThree
    rw [this, if_neg (by decide)]
  refine Vd.inq (D := 14) hd (Nat.le_of_ble_eq_true rfl) rfl (fun d hd Q K => ?_)
  rw [f3] at K
  refine Ends.eq (b751_0 (by decide) l (by omega)) ?_
  rw [h25, ordF_is ox oy x0 y0]
  -- the fraction that is taken
  have put : ∀ {w : Fq} {L : List AV} {q1 : AH}, FOK w → w.2.2.2 = 0 → w.2.2.1 = z.2.2.1 → MPut B h (mkF w.1 w.2.1 z.2.2.1) q1 → MPut B h (k0 w) q1 := fun ow w0 wk g => by
    rw [← wk, mkF_self ow w0] at g; exact g
  by_cases c : 0 < ordF x y
  · have el : cond (tst 4 (ordF x y) 0) (0 : Int) 1 = 0 := by rw [ct4, if_pos c]
    rw [el]
    simp only [ct0, if_true]
    rw [if_pos c] at K
    rw [ordF_is oz oy z0 y0, ordF_is oz ox z0 x0]
    refine Ends.b4 (fun w => Ends.b2 (fun w2 => ?_) (fun w2 => ?_)) (fun w => ?_)
    · refine Ends.cv l (by decide +kernel) (c_frac649 l (by omega) (by omega) (by omega) (by omega)) (fun q2 l2 _ _ _ g => ?_)
      refine Ends.eq (b751_141 l2 (by omega)) (Ends.sm (K _ ?_))
      rw [if_pos w, if_pos w2]; exact put (L := []) oz z0 rfl g
    · refine Ends.cv l (by decide +kernel) (c_frac649 l (by omega) (by omega) (by omega) (by omega)) (fun q2 l2 _ _ _ g => ?_)
      refine Ends.eq (b751_128 l2 (by omega)) (Ends.eq (b751_141 l2 (by omega)) (Ends.sm (K _ ?_)))
      rw [if_pos w, if_neg (by omega)]; exact put (L := []) ox x0 k2 g
    · refine Ends.cv l (by decide +kernel) (c_frac649 l (by omega) (by omega) (by omega) (by omega)) (fun q2 l2 _ _ _ g => ?_)
      refine Ends.eq (b751_101 l2 (by omega)) (Ends.eq (b751_141 l2 (by omega)) (Ends.sm (K _ ?_)))
      rw [if_neg (by omega)]; exact put (L := []) oy y0 (by omega) g
  · have el : cond (tst 4 (ordF x y) 0) (0 : Int) 1 = 1 := by rw [ct4, if_neg c]
    rw [el]
    simp only [ct0, show ¬ (1 : Int) = 0 by decide, if_false]
    rw [if_neg c] at K
    rw [ordF_is oz oy z0 y0, ordF_is oz ox z0 x0]
    refine Ends.b4 (fun w => Ends.b2 (fun w2 => ?_) (fun w2 => ?_)) (fun w => ?_)
    · refine Ends.cv l (by decide +kernel) (c_frac649 l (by omega) (by omega) (by omega) (by omega)) (fun q2 l2 _ _ _ g => ?_)
      refine Ends.eq (b751_141 l2 (by omega)) (Ends.sm (K _ ?_))
      rw [if_pos w, if_pos w2]; exact put (L := []) oz z0 rfl g
    · refine Ends.cv l (by decide +kernel) (c_frac649 l (by omega) (by omega) (by omega) (by omega)) (fun q2 l2 _ _ _ g => ?_)
      refine Ends.eq (b751_128 l2 (by omega)) (Ends.eq (b751_141 l2 (by omega)) (Ends.sm (K _ ?_)))
      rw [if_pos w, if_neg (by omega)]; exact put (L := []) oy y0 (by omega) g
    · refine Ends.cv l (by decide +kernel) (c_frac649 l (by omega) (by omega) (by omega) (by omega)) (fun q2 l2 _ _ _ g => ?_)
      refine Ends.eq (b751_101 l2 (by omega)) (Ends.eq (b751_141 l2 (by omega)) (Ends.sm (K _ ?_)))
      rw [if_neg (by omega)]; exact put (L := []) ox x0 k2 g
end MOPS
