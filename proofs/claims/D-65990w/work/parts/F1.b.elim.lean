/-! L3: equations (model): rows are freed of the pivots -/
section CRS
/-- no more than 6 ^ 12 -/
def mB (x : Int) : Prop := -2176782336 ≤ x ∧ x ≤ 2176782336
theorem tmod_b {x p : Int} (hp : p ≠ 0) : (x.tmod p).natAbs < p.natAbs := by
  rw [Int.natAbs_tmod]
  exact Nat.mod_lt _ (by omega)
theorem abs_mul {x y : Int} {a b : Nat} (h1 : x.natAbs ≤ a) (h2 : y.natAbs ≤ b) : (x * y).natAbs ≤ a * b := by
  rw [Int.natAbs_mul]; exact Nat.mul_le_mul h1 h2
theorem crs_s {a b c e p y qa ra qc rc x z xd xr zd zr s : Int} (a1 : p * qa + ra = a) (c1 : p * qc + rc = c) (eq : a * b - c * e = p * y) (ex : x = ra * b) (ez : z = rc * e) (x1 : p * xd + xr = x) (z1 : p * zd + zr = z) (es : s = xr - zr) : s = p * (y - (qa * b - qc * e) - (xd - zd)) := by
  have h1 : a * b = p * (qa * b) + ra * b := by rw [← a1]; grind
  have h2 : c * e = p * (qc * e) + rc * e := by rw [← c1]; grind
  have h3 : p * (y - (qa * b - qc * e) - (xd - zd)) = p * y - (p * (qa * b) - p * (qc * e)) - (p * xd - p * zd) := by grind
  rw [h3]
  omega
/-- (a b - c d) / p, piece by piece -/
theorem v587_is {a b c e p y : Int} (hp : p ≠ 0) (bp : mB p) (bb : mB b) (be : mB e) (ha : cn 1 a) (hc : cn 1 c) (hy : cn 1 y) (eq : a * b - c * e = p * y) : v587 a b c e p = y := by
  unfold mB at bp bb be
  have a1 := Int.mul_tdiv_add_tmod a p
  have c1 := Int.mul_tdiv_add_tmod c p
  have ra := tmod_b (x := a) hp
  have rc := tmod_b (x := c) hp
  obtain ⟨x, ex⟩ : ∃ x, x = a.tmod p * b := ⟨_, rfl⟩
  obtain ⟨z, ez⟩ : ∃ z, z = c.tmod p * e := ⟨_, rfl⟩
  have bx : x.natAbs ≤ 2176782336 * 2176782336 := by rw [ex]; exact abs_mul (by omega) (by omega)
  have bz : z.natAbs ≤ 2176782336 * 2176782336 := by rw [ez]; exact abs_mul (by omega) (by omega)
  have x1 := Int.mul_tdiv_add_tmod x p
  have z1 := Int.mul_tdiv_add_tmod z p
  have rx := tmod_b (x := x) hp
  have rz := tmod_b (x := z) hp
  obtain ⟨s, es⟩ : ∃ s, s = x.tmod p - z.tmod p := ⟨_, rfl⟩
  have s1 : s = p * (y - (a.tdiv p * b - c.tdiv p * e) - (x.tdiv p - z.tdiv p)) := crs_s a1 c1 eq ex ez x1 z1 es
  have s2 : s.tdiv p = y - (a.tdiv p * b - c.tdiv p * e) - (x.tdiv p - z.tdiv p) := by
    rw [s1]; exact Int.mul_tdiv_cancel_left _ hp
  have d1 : (x.tdiv p).natAbs ≤ x.natAbs := by rw [Int.natAbs_tdiv]; exact Nat.div_le_self _ _
  have d2 : (z.tdiv p).natAbs ≤ z.natAbs := by rw [Int.natAbs_tdiv]; exact Nat.div_le_self _ _
  have m1 : bop64 113 a p = a.tmod p := w64_id ⟨by omega, by omega⟩
  have m2 : bop64 113 c p = c.tmod p := w64_id ⟨by omega, by omega⟩
  have m3 : bop64 105 (a.tmod p) b = x := by rw [ex]; exact w64_id ⟨by rw [← ex]; omega, by rw [← ex]; omega⟩
  have m4 : bop64 105 (c.tmod p) e = z := by rw [ez]; exact w64_id ⟨by rw [← ez]; omega, by rw [← ez]; omega⟩
  have m5 : bop64 113 x p = x.tmod p := w64_id ⟨by omega, by omega⟩
  have m6 : bop64 113 z p = z.tmod p := w64_id ⟨by omega, by omega⟩
  have m7 : bop64 101 (x.tmod p) (z.tmod p) = s := by rw [es]; exact w64_id ⟨by omega, by omega⟩
  have m8 : bop64 109 x p = w64 (x.tdiv p) := rfl
  have m9 : bop64 109 z p = w64 (z.tdiv p) := rfl
  have m10 : bop64 109 s p = w64 (s.tdiv p) := rfl
  unfold v587
  rw [m1, m2, m3, m4, m5, m6, m7, m8, m9, m10, s2]
  have n1 : bop64 109 a p = w64 (a.tdiv p) := rfl
  have n2 : bop64 109 c p = w64 (c.tdiv p) := rfl
  rw [n1, n2]
  have k1 : ∀ f g : Int, bop64 105 (w64 f) g = w64 (w64 f * g) := fun _ _ => rfl
  have k2 : ∀ f g : Int, bop64 101 f g = w64 (f - g) := fun _ _ => rfl
  have k3 : ∀ f g : Int, bop64 97 f g = w64 (f + g) := fun _ _ => rfl
  rw [k1, k1, k2, k2, k3, k3]
  refine w_eq hy ?_
  have q1 : w64 (w64 (a.tdiv p) * b) % 18446744073709551616 = (a.tdiv p * b) % 18446744073709551616 := by
    rw [wmod, Int.mul_emod, wmod, ← Int.mul_emod]
  have q2 : w64 (w64 (c.tdiv p) * e) % 18446744073709551616 = (c.tdiv p * e) % 18446744073709551616 := by
    rw [wmod, Int.mul_emod, wmod, ← Int.mul_emod]
  obtain ⟨f1, ef1⟩ : ∃ f, f = w64 (w64 (a.tdiv p) * b) := ⟨_, rfl⟩
  obtain ⟨f2, ef2⟩ : ∃ f, f = w64 (w64 (c.tdiv p) * e) := ⟨_, rfl⟩
  obtain ⟨g1, eg1⟩ : ∃ g, g = a.tdiv p * b := ⟨_, rfl⟩
  obtain ⟨g2, eg2⟩ : ∃ g, g = c.tdiv p * e := ⟨_, rfl⟩
  rw [← ef1, ← eg1] at q1
  rw [← ef2, ← eg2] at q2
  rw [← ef1, ← ef2, ← eg1, ← eg2]
  have w1 := wmod (f1 - f2)
  have w2 := wmod (x.tdiv p)
  have w3 := wmod (z.tdiv p)
  have w4 := wmod (w64 (x.tdiv p) - w64 (z.tdiv p))
  have w5 := wmod (w64 (f1 - f2) + w64 (w64 (x.tdiv p) - w64 (z.tdiv p)))
  have w6 := wmod (y - (g1 - g2) - (x.tdiv p - z.tdiv p))
  generalize w64 (w64 (f1 - f2) + w64 (w64 (x.tdiv p) - w64 (z.tdiv p))) = t5 at *
  generalize w64 (w64 (x.tdiv p) - w64 (z.tdiv p)) = t4 at *
  generalize w64 (f1 - f2) = t1 at *
  generalize w64 (x.tdiv p) = t2 at *
  generalize w64 (z.tdiv p) = t3 at *
  generalize w64 (y - (g1 - g2) - (x.tdiv p - z.tdiv p)) = t6 at *
  generalize x.tdiv p = xd at *
  generalize z.tdiv p = zd at *
  clear ex ez bx bz x1 z1 rx rz es s1 s2 d1 d2 m1 m2 m3 m4 m5 m6 m7 m8 m9 m10 n1 n2 k1 k2 k3 ef1 ef2 eg1 eg2 a1 c1 ra rc eq hp bp bb be ha hc hy
  omega
end CRS
section GBD
variable {u : Nat} {w : (Nat → Bool) → Int} {C S : Nat → Bool} {t : Int} {r v : Nat → Int} {c j : Nat}
/-- a row that can come -/
def RB (v : Nat → Int) : Prop := rnm 24 v ≤ 6 ∧ rl 24 v ≤ 4 ∧ (v 24).natAbs ≤ 200
/-- products of u rows -/
def GB (u : Nat) (w : (Nat → Bool) → Int) : Prop := nrm 24 w ≤ ((6 ^ u : Nat) : Int) ∧ Bd1 24 200 u w
theorem GB.ini : GB 0 (w0 25) := ⟨by rw [nrm_0 24 (by decide)]; decide, Bd1.ini⟩
theorem GB.step (b : GB u w) (h : RB r) : GB (u + 1) (wdg 25 w r) := by
  refine ⟨?_, b.2.step h.2.1 h.2.2⟩
  have e : nrm 24 (wdg 25 w r) = nrm 24 (wdg 24 w r) := sS_congr 24 (fun S hS => by rw [wdg_F (hS 24 (Nat.le_refl 24))])
  have := nrm_step (n := 24) h.1 b.1
  rw [e, Nat.pow_succ]
  refine Int.le_trans this ?_
  push_cast
  generalize (6 : Int) ^ u = x
  omega
theorem GB.at (b : GB u w) (hu : u ≤ 24) (hS : ∀ i, 24 ≤ i → S i = false) : (w S).natAbs ≤ 2176782336 := by
  have h1 := nrm_at (w := w) hS
  have h2 : (6 ^ u : Nat) ≤ 6 ^ 24 := Nat.pow_le_pow_right (by decide) hu
  have h3 := b.1
  have h4 : (w S).natAbs * (w S).natAbs = (w S * w S).natAbs := (Int.natAbs_mul _ _).symm
  have h5 := sq_nn (w S)
  generalize 6 ^ u = x at *
  rcases Nat.lt_or_ge 2176782336 (w S).natAbs with z | z
  · have h6 := Nat.mul_le_mul (show 2176782337 ≤ (w S).natAbs by omega) (show 2176782337 ≤ (w S).natAbs by omega)
    rw [h4] at h6
    have h7 : (6 ^ 24 : Nat) = 4738381338321616896 := by decide
    rw [h7] at h2
    omega
  · exact z
theorem GB.big (b : GB u w) (hu : u ≤ 25) : -6000000000000000000 ≤ w S ∧ w S ≤ 6000000000000000000 := big_c hu (b.2 S).2
theorem sg1 {x y : Int} (h : x.natAbs = 1) : (x * y).natAbs = y.natAbs := by rw [Int.natAbs_mul, h, Nat.one_mul]
theorem jac_abs (tt : t * t = 1) (hj : C j = false) : (jac 25 w C t c j).natAbs = (w (mns (pls C j) c)).natAbs := by
  unfold jac
  rw [if_neg (by rw [hj]; exact Bool.false_ne_true), Int.natAbs_neg, sg1 (one_t tt), sg1 (sgp_abs 25), sg1 (sgp_abs 25)]
theorem de_abs (tt : t * t = 1) : (t * w C).natAbs = (w C).natAbs := sg1 (one_t tt)
theorem rho_abs (tt : t * t = 1) (hj : j < 25) (cj : C j = false) : (rho 25 w C t v j).natAbs = (wdg 25 w v (pls C j)).natAbs := by
  rw [rho_out hj cj, sg1 (one_t tt), sg1 (sgp_abs 25)]
theorem pls_lo (hC : ∀ i, 24 ≤ i → C i = false) (hj : j < 24) : ∀ i, 24 ≤ i → pls C j i = false := fun i hi => by
  unfold pls
  rw [hC i hi, decide_eq_false (by omega)]; rfl
theorem mns_lo (hC : ∀ i, 24 ≤ i → C i = false) : ∀ i, 24 ≤ i → mns C j i = false := fun i hi => by
  unfold mns
  rw [hC i hi]; rfl
/-- what stands in the rows fits -/
theorem jac_lo (b : GB u w) (hu : u ≤ 24) (tt : t * t = 1) (hC : ∀ i, 24 ≤ i → C i = false) (hj : j < 24) : mB (jac 25 w C t c j) := by
  cases cj : C j
  · have := jac_abs (w := w) (c := c) tt cj
    have := b.at hu (mns_lo (j := c) (pls_lo hC hj))
    unfold mB; omega
  · by_cases e : c = j
    · rw [e, jac_on cj]
      have := de_abs (w := w) (C := C) tt
      have := b.at hu hC
      unfold mB; omega
    · rw [jac_off cj e]; unfold mB; omega
theorem jac_cn (b : GB u w) (hu : u ≤ 25) (tt : t * t = 1) : cn 1 (jac 25 w C t c j) := by
  cases cj : C j
  · have := jac_abs (w := w) (c := c) tt cj
    have := b.big (S := mns (pls C j) c) hu
    exact ⟨by omega, by omega⟩
  · by_cases e : c = j
    · rw [e, jac_on cj]
      have := de_abs (w := w) (C := C) tt
      have := b.big (S := C) hu
      exact ⟨by omega, by omega⟩
    · rw [jac_off cj e]; exact ⟨by omega, by omega⟩
theorem de_lo (b : GB u w) (hu : u ≤ 24) (tt : t * t = 1) (hC : ∀ i, 24 ≤ i → C i = false) : mB (t * w C) := by
  have := de_abs (w := w) (C := C) tt
  have := b.at hu hC
  unfold mB; omega
theorem rho_lo (b : GB u w) (hu : u < 24) (tt : t * t = 1) (hC : ∀ i, 24 ≤ i → C i = false) (hv : RB v) (hj : j < 24) : mB (rho 25 w C t v j) := by
  cases cj : C j
  · have := rho_abs (w := w) (v := v) tt (show j < 25 by omega) cj
    have := (b.step hv).at (by omega) (pls_lo hC hj)
    unfold mB; omega
  · rw [rho_in (by omega) cj]; unfold mB; omega
theorem rho_cn (b : GB u w) (hu : u ≤ 24) (tt : t * t = 1) (hv : RB v) (hj : j < 25) : cn 1 (rho 25 w C t v j) := by
  cases cj : C j
  · have := rho_abs (w := w) (v := v) tt hj cj
    have := (b.step hv).big (S := pls C j) (by omega)
    exact ⟨by omega, by omega⟩
  · rw [rho_in hj cj]; exact ⟨by omega, by omega⟩
end GBD
section ELIM
variable {gv : Nat → Int} {B n d rm o u c : Nat} {h q0 : AH} {Q : Rs → Prop} {A : (Nat → Int) → Prop} {w : (Nat → Bool) → Int} {C : Nat → Bool} {t p qv sc x3 : Int} {pc : Nat → Nat} {R : Nat → Nat → Int}
theorem ix25 {o j : Nat} (ho : o < 65) (hj : j < 26) : bop32 96 (bop32 104 25 (o : Int)) (j : Int) = ((25 * o + j : Nat) : Int) := by
  rw [show bop32 104 25 (o : Int) = ((25 * o : Nat) : Int) from mulNN (x := 25) (by omega)]; exact addNN (by omega)
/-- one row is freed of the pivot -/
theorem el_row {old nw ou : Nat → Int} (hd : 9 ≤ d) (ho : o < 64) (hu : u < 64) (hou : o ≠ u) (e37 : hv q0 (B + 149) 37 = sc) (s0 : sc ≠ 0) (bs : mB sc) (bp : mB p) (bq : mB qv) (co : ∀ j, j < 25 → cn 1 (old j)) (cu : ∀ j, j < 25 → cn 1 (ou j)) (cw : ∀ j, j < 25 → cn 1 (nw j)) (rel : ∀ j, j < 25 → old j * p - ou j * qv = sc * nw j)
    (K : ∀ (q : AH) (u9 : AV), LX B n q → Agr (fun c k => c = B + 160 ∧ 25 * o ≤ k ∧ k < 25 * o + 25) q0 q → (∀ j, j < 25 → hv q (B + 160) (25 * o + j) = nw j) → Ends (ev PP (gsF gv) B d 606 245 [(2, rf (B + 149)), (0, (u : Int)), (0, (c : Int)), (0, x3), (1, p), (9, 0), (0, (o : Int)), (1, qv), (9, 0), u9] [] q) Q) :
    ∀ (r j : Nat) (q : AH), j + r = 25 → LX B n q → Agr (fun c k => c = B + 160 ∧ 25 * o ≤ k ∧ k < 25 * o + 25) q0 q → (∀ j', j' < 25 → hv q (B + 160) (25 * o + j') = if j' < j then nw j' else old j') → (∀ j', j' < 25 → hv q (B + 160) (25 * u + j') = ou j') → Ends (ev PP (gsF gv) B d 606 183 [(2, rf (B + 149)), (0, (u : Int)), (0, (c : Int)), (0, x3), (1, p), (9, 0), (0, (o : Int)), (1, qv), (9, 0), (0, (j : Int))] [] q) Q := by
  intro r
  induction r with
  | zero =>
    intro j q e lq g ho1 hu1
    obtain rfl : j = 25 := by omega
    refine Ends.eq (b606_183 (by decide) lq (by omega)) (Ends.b3 (fun _ => ?_) (fun z => absurd z (by decide)))
    exact K q _ lq g (fun j hj => by rw [ho1 j hj, if_pos hj])
  | succ r ih =>
    intro j q e lq g ho1 hu1
    refine Ends.eq (b606_183 (by decide) lq (by omega)) (Ends.b3 (fun z => absurd z (by omega)) (fun _ => ?_))
    rw [ix25 (by omega) (by omega), ix25 (by omega) (by omega), tn, tn, an1, w_succ (by omega), ho1 j (by omega), if_neg (Nat.lt_irrefl j), hu1 j (by omega), g.at _ _ (by omega), e37, v587_is s0 bs bp bq (co j (by omega)) (cu j (by omega)) (cw j (by omega)) (rel j (by omega))]
    refine Ends.g ⟨by omega, by omega⟩ (Ends.g ⟨by omega, by omega⟩ (Ends.g s0 ?_))
    refine ih (j + 1) _ (by omega) (lq.setS rfl) (g.set ⟨rfl, by omega, by omega⟩) (fun j' hj' => ?_) (fun j' hj' => ?_)
    · by_cases e2 : j' = j
      · rw [e2, hv_set_at, if_pos (Nat.lt_succ_self j)]
      · rw [hv_set_ne (by omega), ho1 j' hj']
        by_cases e3 : j' < j
        · rw [if_pos e3, if_pos (by omega)]
        · rw [if_neg e3, if_neg (by omega)]
    · rw [hv_set_ne (by omega)]; exact hu1 j' hj'
/-- all rows but one are freed of the pivot -/
theorem el_rows {old nw : Nat → Nat → Int} (hd : 9 ≤ d) (hrm : rm ≤ 64) (hu : u < rm) (hc : c < 24) (e35 : hv q0 (B + 149) 35 = (rm : Int)) (e37 : hv q0 (B + 149) 37 = sc) (s0 : sc ≠ 0) (bs : mB sc) (bp : mB p) (ep : old u c = p) (bq : ∀ o, o < rm → mB (old o c)) (co : ∀ o j, o < rm → j < 25 → cn 1 (old o j)) (cw : ∀ o j, o < rm → o ≠ u → j < 25 → cn 1 (nw o j)) (rel : ∀ o j, o < rm → o ≠ u → j < 25 → old o j * p - old u j * old o c = sc * nw o j)
    (K : ∀ (q : AH) (u7 u8 u9 : AV), LX B n q → Agr (fun c _ => c = B + 160) q0 q → (∀ o j, o < rm → j < 25 → hv q (B + 160) (25 * o + j) = if o = u then old o j else nw o j) → Ends (ev PP (gsF gv) B d 606 267 [(2, rf (B + 149)), (0, ((u + 1 : Nat) : Int)), (0, (c : Int)), (0, x3), (1, p), (9, 0), (0, (rm : Int)), u7, u8, u9] [] (hset (hset q (B + 149) 37 p) (B + 162) c (u : Int))) Q) :
    ∀ (r o : Nat) (q : AH) (u7 u8 u9 : AV), o + r = rm → LX B n q → Agr (fun c _ => c = B + 160) q0 q → (∀ o' j, o' < rm → j < 25 → hv q (B + 160) (25 * o' + j) = if o' < o ∧ o' ≠ u then nw o' j else old o' j) → Ends (ev PP (gsF gv) B d 606 148 [(2, rf (B + 149)), (0, (u : Int)), (0, (c : Int)), (0, x3), (1, p), (9, 0), (0, (o : Int)), u7, u8, u9] [] q) Q := by
  intro r
  induction r with
  | zero =>
    intro o q u7 u8 u9 e lq g ho
    obtain rfl : o = rm := by omega
    refine Ends.eq (b606_148 lq (by omega)) ?_
    rw [g.at _ _ (by omega), e35, tn, an0, w_succ (by omega)]
    refine Ends.b3 (fun _ => Ends.g ⟨by omega, by omega⟩ ?_) (fun z => absurd z (Int.lt_irrefl _))
    refine K q _ _ _ lq g (fun o' j ho' hj => ?_)
    rw [ho o' j ho' hj]
    by_cases e2 : o' = u
    · rw [if_neg (fun z => z.2 e2), if_pos e2]
    · rw [if_pos ⟨ho', e2⟩, if_neg e2]
  | succ r ih =>
    intro o q u7 u8 u9 e lq g ho
    have go : ∀ (q' : AH) (u7 u8 u9 : AV), LX B n q' → Agr (fun c _ => c = B + 160) q0 q' → (∀ o' j, o' < rm → j < 25 → hv q' (B + 160) (25 * o' + j) = if o' < o + 1 ∧ o' ≠ u then nw o' j else old o' j) → Ends (ev PP (gsF gv) B d 606 245 [(2, rf (B + 149)), (0, (u : Int)), (0, (c : Int)), (0, x3), (1, p), (9, 0), (0, (o : Int)), u7, u8, u9] [] q') Q := fun q' u7 u8 u9 l' g' ho' => by
      refine Ends.eq (b606_245 (by decide) l' (by omega)) ?_
      rw [w_succ (by omega)]
      exact ih (o + 1) q' _ _ _ (by omega) l' g' ho'
    refine Ends.eq (b606_148 lq (by omega)) ?_
    rw [g.at _ _ (by omega), e35]
    refine Ends.b3 (fun z => absurd z (by omega)) (fun _ => Ends.b1 (fun z => ?_) (fun z => ?_))
    · have hou : o ≠ u := fun y => z (by rw [y])
      rw [ix25 (by omega) (by omega), tn, ho o c (by omega) (by omega), if_neg (fun y => Nat.lt_irrefl o y.1)]
      refine Ends.g ⟨by omega, by omega⟩ ?_
      refine el_row (q0 := q) (old := old o) (nw := nw o) (ou := old u) hd (by omega) (by omega) hou (by rw [g.at _ _ (by omega), e37]) s0 bs bp (bq o (by omega)) (fun j hj => co o j (by omega) hj) (fun j hj => co u j hu hj) (fun j hj => cw o j (by omega) hou hj) (fun j hj => rel o j (by omega) hou hj) (fun q' u9' l' g' h' => ?_) 25 0 q (by omega) lq Agr.rf (fun j' hj' => ?_) (fun j' hj' => ?_)
      · refine go q' _ _ _ l' (g.tr g' (fun c k y => y.1)) (fun o' j ho' hj => ?_)
        by_cases e2 : o' = o
        · rw [e2, if_pos ⟨Nat.lt_succ_self o, hou⟩]; exact h' j hj
        · rw [g'.at _ _ (by omega), ho o' j ho' hj]
          by_cases e3 : o' < o ∧ o' ≠ u
          · rw [if_pos e3, if_pos ⟨by omega, e3.2⟩]
          · rw [if_neg e3, if_neg (fun y => e3 ⟨by omega, y.2⟩)]
      · rw [ho o j' (by omega) hj', if_neg (fun y => Nat.lt_irrefl o y.1), if_neg (Nat.not_lt_zero _)]
      · rw [ho u j' hu hj', if_neg (fun y => y.2 rfl)]
    · have hou : o = u := by omega
      refine go q _ _ _ lq g (fun o' j ho' hj => ?_)
      rw [ho o' j ho' hj]
      by_cases e3 : o' < o ∧ o' ≠ u
      · rw [if_pos e3, if_pos ⟨by omega, e3.2⟩]
      · rw [if_neg e3, if_neg (fun y => e3 ⟨by omega, y.2⟩)]
/-- two rows change places -/
theorem el_swap {old : Nat → Nat → Int} {r1 : Nat} (hd : 9 ≤ d) (hr : r1 < 64) (hu : u < 64) (hc : c < 24)
    (K : ∀ (q : AH) (u7 u8 u9 : AV), LX B n q → Agr (fun c _ => c = B + 160) q0 q → (∀ o j, o < 64 → j < 25 → hv q (B + 160) (25 * o + j) = if o = u then old r1 j else if o = r1 then old u j else old o j) → Ends (ev PP (gsF gv) B d 606 148 [(2, rf (B + 149)), (0, (u : Int)), (0, (c : Int)), (0, (r1 : Int)), (1, old r1 c), (9, 0), (0, 0), u7, u8, u9] [] q) Q) :
    ∀ (r j : Nat) (q : AH) (u5 u6 u7 u8 u9 : AV), j + r = 25 → LX B n q → Agr (fun c _ => c = B + 160) q0 q → (∀ o j', o < 64 → j' < 25 → hv q (B + 160) (25 * o + j') = if j' < j then (if o = u then old r1 j' else if o = r1 then old u j' else old o j') else old o j') → Ends (ev PP (gsF gv) B d 606 67 [(2, rf (B + 149)), (0, (u : Int)), (0, (c : Int)), (0, (r1 : Int)), (0, (j : Int)), u5, u6, u7, u8, u9] [] q) Q := by
  intro r
  induction r with
  | zero =>
    intro j q u5 u6 u7 u8 u9 e lq g ho
    obtain rfl : j = 25 := by omega
    refine Ends.eq (b606_67 lq (by omega)) (Ends.b3 (fun _ => ?_) (fun z => absurd z (by decide)))
    rw [ix25 (by omega) (by omega), tn, ho u c hu (by omega), if_pos (by omega), if_pos rfl]
    refine Ends.g ⟨by omega, by omega⟩ ?_
    exact K q _ _ _ lq g (fun o j ho' hj => by rw [ho o j ho' hj, if_pos hj])
  | succ r ih =>
    intro j q u5 u6 u7 u8 u9 e lq g ho
    refine Ends.eq (b606_67 lq (by omega)) (Ends.b3 (fun z => absurd z (by omega)) (fun _ => ?_))
    rw [ix25 (by omega) (by omega), ix25 (by omega) (by omega), tn, tn, an1, an1, w_succ (by omega), ho r1 j hr (by omega), ho u j hu (by omega), if_neg (Nat.lt_irrefl j), if_neg (Nat.lt_irrefl j)]
    refine Ends.g ⟨by omega, by omega⟩ (Ends.g ⟨by omega, by omega⟩ ?_)
    refine ih (j + 1) _ _ _ _ _ _ (by omega) ((lq.setS rfl).setS rfl) ((g.set rfl).set rfl) (fun o j' ho' hj' => ?_)
    by_cases e2 : j' = j
    · subst e2
      rw [if_pos (Nat.lt_succ_self _)]
      by_cases e3 : o = u
      · rw [e3, hv_set_at, if_pos rfl]
      · rw [hv_set_ne (by omega), if_neg e3]
        by_cases e4 : o = r1
        · rw [e4, hv_set_at, if_pos rfl]
        · rw [hv_set_ne (by omega), if_neg e4, ho o j' ho' hj', if_neg (Nat.lt_irrefl _)]
    · rw [hv_set_ne (by omega), hv_set_ne (by omega), ho o j' ho' hj']
      by_cases e3 : j' < j
      · rw [if_pos e3, if_pos (show j' < j + 1 by omega)]
      · rw [if_neg e3, if_neg (show ¬ j' < j + 1 by omega)]
/-- the first row from u on that has something at a place -/
theorem el_find {old : Nat → Nat → Int} (hd : 9 ≤ d) (hrm : rm ≤ 64) (hc : c < 24) (e35 : hv q0 (B + 149) 35 = (rm : Int)) (lq : LX B n q0) (ho : ∀ o j, o < rm → j < 25 → hv q0 (B + 160) (25 * o + j) = old o j)
    (K : ∀ (r1 : Nat) (u4 u5 u6 u7 u8 u9 : AV), u ≤ r1 → r1 ≤ rm → (∀ r, u ≤ r → r < r1 → old r c = 0) → (r1 < rm → old r1 c ≠ 0) → Ends (ev PP (gsF gv) B d 606 53 [(2, rf (B + 149)), (0, (u : Int)), (0, (c : Int)), (0, (r1 : Int)), u4, u5, u6, u7, u8, u9] [] q0) Q) :
    ∀ (r r1 : Nat) (u4 u5 u6 u7 u8 u9 : AV), r1 + r = rm → u ≤ r1 → (∀ r, u ≤ r → r < r1 → old r c = 0) → Ends (ev PP (gsF gv) B d 606 23 [(2, rf (B + 149)), (0, (u : Int)), (0, (c : Int)), (0, (r1 : Int)), u4, u5, u6, u7, u8, u9] [] q0) Q := by
  intro r
  induction r with
  | zero =>
    intro r1 u4 u5 u6 u7 u8 u9 e hu z
    obtain rfl : r1 = rm := by omega
    refine Ends.eq (b606_23 lq (by omega)) ?_
    rw [e35]
    exact Ends.b3 (fun _ => K r1 _ _ _ _ _ _ hu (Nat.le_refl r1) z (fun y => absurd y (Nat.lt_irrefl r1))) (fun y => absurd y (Int.lt_irrefl _))
  | succ r ih =>
    intro r1 u4 u5 u6 u7 u8 u9 e hu z
    refine Ends.eq (b606_23 lq (by omega)) ?_
    rw [e35, ix25 (by omega) (by omega), tn, ho r1 c (by omega) (by omega), w_succ (by omega)]
    refine Ends.b3 (fun y => absurd y (by omega)) (fun _ => Ends.g ⟨by omega, by omega⟩ (Ends.b1 (fun y => ?_) (fun y => ?_)))
    · exact K r1 _ _ _ _ _ _ hu (by omega) z (fun _ y2 => y (cmp64_z.mpr y2))
    · refine ih (r1 + 1) _ _ _ _ _ _ (by omega) (by omega) (fun r hr1 hr2 => ?_)
      by_cases e2 : r = r1
      · rw [e2]; exact cmp64_z.mp y
      · exact z r hr1 (by omega)
/-- the model's rows: u of them tell, places from c on are done -/
def GjI (B : Nat) (q : AH) (A : (Nat → Int) → Prop) (rm c u : Nat) (w : (Nat → Bool) → Int) (C : Nat → Bool) (t : Int) (pc : Nat → Nat) (R : Nat → Nat → Int) : Prop :=
  (Cra 25 w C t ∧ GB u w ∧ Spn 25 w C t A) ∧ (u ≤ rm ∧ rm ≤ 64 ∧ u + c ≤ 24) ∧ (hv q (B + 149) 35 = (rm : Int) ∧ hv q (B + 149) 37 = t * w C) ∧
  (∀ j, C j = true → c ≤ j ∧ j < 24 ∧ ∃ i, i < u ∧ pc i = j) ∧
  (∀ i, i < u → C (pc i) = true ∧ hv q (B + 162) (pc i) = (i : Int) ∧ ∀ j, j < 25 → hv q (B + 160) (25 * i + j) = jac 25 w C t (pc i) j) ∧
  (∀ j, c ≤ j → j < 24 → C j = false → hv q (B + 162) j = -1 ∧ (∀ i, i < j → C i = true → jac 25 w C t i j = 0) ∧ ∀ r, u ≤ r → r < rm → rho 25 w C t (R r) j = 0) ∧
  (∀ r, u ≤ r → r < rm → A (R r) ∧ ∀ j, j < 25 → hv q (B + 160) (25 * r + j) = rho 25 w C t (R r) j) ∧
  (∀ v, A v → (∀ S, wdg 25 w v S = 0) ∨ ∃ r, u ≤ r ∧ r < rm ∧ v = R r)
/-- all is freed: the rows hold together -/
def GjF (B : Nat) (q : AH) (A : (Nat → Int) → Prop) (u : Nat) (w : (Nat → Bool) → Int) (C : Nat → Bool) (t : Int) (pc : Nat → Nat) : Prop :=
  (Cra 25 w C t ∧ GB u w ∧ Spn 25 w C t A ∧ ∀ v, A v → ∀ S, wdg 25 w v S = 0) ∧ (u ≤ 24 ∧ hv q (B + 149) 37 = t * w C) ∧
  (∀ j, C j = true → j < 24 ∧ ∃ i, i < u ∧ pc i = j) ∧
  (∀ i, i < u → C (pc i) = true ∧ hv q (B + 162) (pc i) = (i : Int) ∧ ∀ j, j < 25 → hv q (B + 160) (25 * i + j) = jac 25 w C t (pc i) j) ∧
  (∀ j, j < 24 → C j = false → hv q (B + 162) j = -1 ∧ ∀ i, i < j → C i = true → jac 25 w C t i j = 0)
def elW (B : Nat) : Nat → Nat → Prop := fun c k => c = B + 160 ∨ c = B + 162 ∨ (c = B + 149 ∧ k = 37)
theorem GjI.lo {q : AH} (i : GjI B q A rm c u w C t pc R) : ∀ j, 24 ≤ j → C j = false := fun j hj => by
  cases e : C j
  · rfl
  · have := i.2.2.2.1 j e
    omega
/-- a column without a row that could tell it -/
theorem GjI.skip {q : AH} (i : GjI B q A rm (c + 1) u w C t pc R) (z : ∀ r, u ≤ r → r < rm → rho 25 w C t (R r) c = 0) : GjI B (hset q (B + 162) c (-1)) A rm c u w C t pc R := by
  have ilo := i.lo
  obtain ⟨i1, i2, i3, i4, i5, i6, i7, i8⟩ := i
  refine ⟨i1, by omega, ⟨by rw [hv_set_ne (by omega)]; exact i3.1, by rw [hv_set_ne (by omega)]; exact i3.2⟩, fun j hj => ?_, fun k hk => ?_, fun j h1 h2 h3 => ?_, fun r h1 h2 => ⟨(i7 r h1 h2).1, fun j hj => by rw [hv_set_ne (by omega)]; exact (i7 r h1 h2).2 j hj⟩, i8⟩
  · obtain ⟨a1, a2, a3⟩ := i4 j hj
    exact ⟨by omega, a2, a3⟩
  · obtain ⟨a1, a2, a3⟩ := i5 k hk
    have := (i4 _ a1).1
    exact ⟨a1, by rw [hv_set_ne (by omega)]; exact a2, fun j hj => by rw [hv_set_ne (by omega)]; exact a3 j hj⟩
  · by_cases e : j = c
    · subst e
      refine ⟨hv_set_at _ _ _ _, fun k hk ck => ?_, z⟩
      have := (i4 k ck).1
      omega
    · obtain ⟨a1, a2, a3⟩ := i6 j (by omega) h2 h3
      exact ⟨by rw [hv_set_ne (by omega)]; exact a1, a2, a3⟩
/-- a column that a row tells -/
theorem GjI.tell {q q' : AH} {r1 : Nat} {R' : Nat → Nat → Int} (hA : ∀ v, A v → RB v) (i : GjI B q A rm (c + 1) u w C t pc R) (h1 : u ≤ r1) (h2 : r1 < rm) (z : rho 25 w C t (R r1) c ≠ 0) (eR : R' = fun o => if o = u then R r1 else if o = r1 then R u else R o)
    (g : Agr (fun c' k => c' = B + 160 ∨ (c' = B + 162 ∧ k = c)) q q') (ho : ∀ o j, o < rm → j < 25 → hv q' (B + 160) (25 * o + j) = if o = u then rho 25 w C t (R' o) j else if o < u then jac 25 (wdg 25 w (R' u)) (pls C c) (t * sgp (pls C c) c 25) (pc o) j else rho 25 (wdg 25 w (R' u)) (pls C c) (t * sgp (pls C c) c 25) (R' o) j) :
    GjI B (hset (hset q' (B + 149) 37 (rho 25 w C t (R' u) c)) (B + 162) c (u : Int)) A rm c (u + 1) (wdg 25 w (R' u)) (pls C c) (t * sgp (pls C c) c 25) (fun k => if k = u then c else pc k) R' := by
  have ilo := i.lo
  obtain ⟨⟨i1, ib, is⟩, i2, i3, i4, i5, i6, i7, i8⟩ := i
  have ru : R' u = R r1 := by rw [eR]; exact if_pos rfl
  have rin : ∀ r, u ≤ r → r < rm → ∃ r0, u ≤ r0 ∧ r0 < rm ∧ R' r = R r0 := fun r a b => by
    rw [eR]
    by_cases e1 : r = u
    · exact ⟨r1, h1, h2, if_pos e1⟩
    · by_cases e2 : r = r1
      · exact ⟨u, Nat.le_refl u, by omega, by simp only [if_neg e1, if_pos e2]⟩
      · exact ⟨r, a, b, by simp only [if_neg e1, if_neg e2]⟩
  rw [← ru] at z
  have cc : C c = false := by
    cases e : C c
    · rfl
    · have := (i4 c e).1
      omega
  have hc : c < 24 := by omega
  have aR : ∀ r, u ≤ r → r < rm → A (R' r) := fun r a b => by
    obtain ⟨r0, b1, b2, b3⟩ := rin r a b
    rw [b3]; exact (i7 r0 b1 b2).1
  obtain ⟨s1, s2, s3, s4⟩ := i1.step (show c < 25 by omega) cc z
  have zj : ∀ j, c + 1 ≤ j → j < 24 → C j = false → ∀ r, u ≤ r → r < rm → rho 25 w C t (R' r) j = 0 := fun j a b e r r2 r3 => by
    obtain ⟨r0, b1, b2, b3⟩ := rin r r2 r3
    rw [b3]; exact (i6 j a b e).2.2 r0 b1 b2
  have dz : ∀ x : Int, t * w C * x = 0 → x = 0 := fun x e => by
    rcases Int.mul_eq_zero.mp e with y | y
    · exact absurd y i1.2.1
    · exact y
  refine ⟨⟨s4, ib.step (hA _ (aR u (Nat.le_refl u) (by omega))), is.step i1 (aR u (Nat.le_refl u) (by omega)) (by omega) cc z⟩, by omega, ⟨?_, ?_⟩, fun j hj => ?_, fun k hk => ?_, fun j a1 a2 a3 => ?_, fun r a1 a2 => ⟨aR r (by omega) a2, fun j hj => ?_⟩, fun v hv0 => ?_⟩
  · rw [hv_set_ne (by omega), hv_set_ne (by omega), g.at _ _ (by omega)]; exact i3.1
  · rw [hv_set_ne (by omega), hv_set_at, s1]
  · by_cases e : j = c
    · subst e
      exact ⟨Nat.le_refl j, hc, u, by omega, if_pos rfl⟩
    · have cj : C j = true := by unfold pls at hj; simpa [e] using hj
      obtain ⟨a1, a2, k, a3, a4⟩ := i4 j cj
      exact ⟨by omega, a2, k, by omega, by simp only [if_neg (show ¬ k = u by omega)]; exact a4⟩
  · by_cases e : k = u
    · subst e
      simp only [if_true]
      refine ⟨by unfold pls; simp, hv_set_at _ _ _ _, fun j hj => ?_⟩
      rw [hv_set_ne (by omega), hv_set_ne (by omega), ho k j (by omega) hj, if_pos rfl, s2 j hj]
    · simp only [if_neg e]
      obtain ⟨a1, a2, a3⟩ := i5 k (by omega)
      have := (i4 _ a1).1
      refine ⟨by unfold pls; rw [a1]; rfl, ?_, fun j hj => ?_⟩
      · rw [hv_set_ne (by omega), hv_set_ne (by omega), g.at _ _ (by omega)]; exact a2
      · rw [hv_set_ne (by omega), hv_set_ne (by omega), ho k j (by omega) hj, if_neg e, if_pos (by omega)]
  · have ej : j ≠ c := fun e => by rw [e] at a3; unfold pls at a3; simp at a3
    have cj : C j = false := by unfold pls at a3; simpa [ej] using a3
    obtain ⟨b1, b2, b3⟩ := i6 j (by omega) a2 cj
    refine ⟨?_, fun k hk ck => ?_, fun r r2 r3 => ?_⟩
    · rw [hv_set_ne (by omega), hv_set_ne (by omega), g.at _ _ (by omega)]; exact b1
    · by_cases e : k = c
      · rw [e, s2 j (by omega)]; exact zj j (by omega) a2 cj u (Nat.le_refl u) (by omega)
      · have ck' : C k = true := by unfold pls at ck; simpa [e] using ck
        refine dz _ ?_
        rw [s3 k j (by have := i4 k ck'; omega) ck' (by omega), b2 k hk ck', zj j (by omega) a2 cj u (Nat.le_refl u) (by omega)]
        simp
    · refine dz _ ?_
      rw [i1.row (by omega) cc z (by omega), zj j (by omega) a2 cj r (by omega) r3, zj j (by omega) a2 cj u (Nat.le_refl u) (by omega)]
      simp
  · rw [hv_set_ne (by omega), hv_set_ne (by omega), ho r j a2 hj, if_neg (by omega), if_neg (by omega)]
  · rcases i8 v hv0 with y | ⟨r, r2, r3, r4⟩
    · exact Or.inl (fun S => rho_wdg i1 y _ S)
    · by_cases e1 : r = r1
      · left
        intro S
        rw [r4, e1, ← ru]
        exact wdg_self
      · right
        by_cases e2 : r = u
        · refine ⟨r1, by omega, h2, ?_⟩
          rw [r4, e2, eR]
          simp only [if_neg (show ¬ r1 = u by omega), if_true]
        · refine ⟨r, by omega, r3, ?_⟩
          rw [r4, eR]
          simp only [if_neg e2, if_neg e1]
theorem GjI.fin {q : AH} (i : GjI B q A rm 0 u w C t pc R) (z : ∀ r, u ≤ r → r < rm → rho 25 w C t (R r) 24 = 0) : GjF B q A u w C t pc := by
  obtain ⟨⟨i1, ib, is⟩, i2, i3, i4, i5, i6, i7, i8⟩ := i
  refine ⟨⟨i1, ib, is, fun v hv0 => ?_⟩, ⟨by omega, i3.2⟩, fun j hj => (i4 j hj).2, i5, fun j a b => ⟨(i6 j (Nat.zero_le j) a b).1, (i6 j (Nat.zero_le j) a b).2.1⟩⟩
  rcases i8 v hv0 with y | ⟨r, r2, r3, r4⟩
  · exact y
  · refine i1.wdg0 (fun j hj => ?_)
    rw [r4]
    by_cases e : j = 24
    · rw [e]; exact z r r2 r3
    · cases cj : C j
      · exact (i6 j (Nat.zero_le j) (by omega) cj).2.2 r r2 r3
      · exact rho_in hj cj
theorem c_eliminate606 {R0 : Nat → Nat → Int} (l : LX B n h) (hd : 10 ≤ d) (hrm : rm ≤ 64) (e35 : hv h (B + 149) 35 = (rm : Int)) (hA : ∀ v, A v → RB v ∧ ∃ r, r < rm ∧ v = R0 r) (hR : ∀ r, r < rm → A (R0 r) ∧ ∀ j, j < 25 → hv h (B + 160) (25 * r + j) = R0 r j) :
    Vt 0 (cll PP (ev PP (gsF gv) B) d 606 [(2, rf (B + 149))] h) (fun x h' => Agr (elW B) h h' ∧ ((x = 1 ∧ ∃ u w C t pc, GjF B h' A u w C t pc) ∨ (x = 0 ∧ ∃ w C t v, Spn 25 w C t A ∧ A v ∧ (∀ j, j < 24 → rho 25 w C t v j = 0) ∧ rho 25 w C t v 24 ≠ 0))) := by
  refine Vt.inq (D := 9) hd (Nat.le_of_ble_eq_true rfl) rfl (fun d hd Q K => ?_)
  have last : ∀ (u : Nat) (w : (Nat → Bool) → Int) (C : Nat → Bool) (t : Int) (pc : Nat → Nat) (R : Nat → Nat → Int) (q : AH), GjI B q A rm 0 u w C t pc R → LX B n q → Agr (elW B) h q → ∀ (r k : Nat) (u3 u4 u5 u6 u7 u8 u9 : AV), k + r = rm → u ≤ k → (∀ r, u ≤ r → r < k → rho 25 w C t (R r) 24 = 0) → Ends (ev PP (gsF gv) B d 606 275 [(2, rf (B + 149)), (0, (u : Int)), (0, (k : Int)), u3, u4, u5, u6, u7, u8, u9] [] q) Q := by
    intro u w C t pc R q i lq g r
    induction r with
    | zero =>
      intro k u3 u4 u5 u6 u7 u8 u9 e hk z
      obtain rfl : k = rm := by omega
      refine Ends.eq (b606_275 lq (by omega)) ?_
      rw [i.2.2.1.1]
      exact Ends.b3 (fun _ => Ends.sm (K _ _ ⟨g, Or.inl ⟨rfl, u, w, C, t, pc, i.fin z⟩⟩)) (fun y => absurd y (Int.lt_irrefl _))
    | succ r ih =>
      intro k u3 u4 u5 u6 u7 u8 u9 e hk z
      have ix : bop32 100 (bop32 96 (bop32 104 25 (k : Int)) 25) 1 = ((25 * k + 24 : Nat) : Int) := by
        rw [show bop32 96 (bop32 104 25 (k : Int)) 25 = ((25 * k + 25 : Nat) : Int) from ix25 (j := 25) (by omega) (by omega)]
        exact subNN (y := 1) (by omega) (by omega)
      obtain ⟨aR, vR⟩ := i.2.2.2.2.2.2.1 k hk (by omega)
      refine Ends.eq (b606_275 lq (by omega)) ?_
      rw [i.2.2.1.1, ix, tn, vR 24 (by decide), w_succ (by omega)]
      refine Ends.b3 (fun y => absurd y (by omega)) (fun _ => Ends.g ⟨by omega, by omega⟩ (Ends.b0 (fun y => ?_) (fun y => ?_)))
      · refine ih (k + 1) _ _ _ _ _ _ _ (by omega) (by omega) (fun r' a b => ?_)
        by_cases e2 : r' = k
        · rw [e2]; exact cmp64_z.mp y
        · exact z r' a (by omega)
      · refine Ends.sm (K _ _ ⟨g, Or.inr ⟨rfl, w, C, t, R k, i.1.2.2, aR, fun j hj => ?_, fun y2 => y (cmp64_z.mpr y2)⟩⟩)
        cases cj : C j
        · exact (i.2.2.2.2.2.1 j (Nat.zero_le j) hj cj).2.2 k hk (by omega)
        · exact rho_in (by omega) cj
  have main : ∀ (c u : Nat) (w : (Nat → Bool) → Int) (C : Nat → Bool) (t : Int) (pc : Nat → Nat) (R : Nat → Nat → Int) (q : AH) (u3 u4 u5 u6 u7 u8 u9 : AV), GjI B q A rm c u w C t pc R → LX B n q → Agr (elW B) h q → Ends (ev PP (gsF gv) B d 606 10 [(2, rf (B + 149)), (0, (u : Int)), (0, (c : Int) - 1), u3, u4, u5, u6, u7, u8, u9] [] q) Q := by
    intro c
    induction c with
    | zero =>
      intro u w C t pc R q u3 u4 u5 u6 u7 u8 u9 i lq g
      refine Ends.eq (b606_10 lq (by omega)) (Ends.b2 (fun _ => ?_) (fun z => absurd z (by decide)))
      have := i.2.1
      exact last u w C t pc R q i lq g (rm - u) u _ _ _ _ _ _ _ (by omega) (Nat.le_refl u) (fun r a b => absurd b (by omega))
    | succ c ih =>
      intro u w C t pc R q u3 u4 u5 u6 u7 u8 u9 i lq g
      have i2 := i.2.1
      have ilo := i.lo
      have ec : ((c + 1 : Nat) : Int) - 1 = (c : Int) := by omega
      have back : ∀ (q' : AH) (u' : Nat) (w' : (Nat → Bool) → Int) (C' : Nat → Bool) (t' : Int) (pc' : Nat → Nat) (R' : Nat → Nat → Int) (x3 : Int) (u4 u5 u6 u7 u8 u9 : AV), GjI B q' A rm c u' w' C' t' pc' R' → LX B n q' → Agr (elW B) h q' → Ends (ev PP (gsF gv) B d 606 267 [(2, rf (B + 149)), (0, (u' : Int)), (0, (c : Int)), (0, x3), u4, u5, u6, u7, u8, u9] [] q') Q := fun q' u' w' C' t' pc' R' x3 u4 u5 u6 u7 u8 u9 i' l' g' => by
        refine Ends.eq (b606_267 l' (by omega)) ?_
        rw [inc32 (by omega) (by omega), show (c : Int) + (-1) = (c : Int) - 1 by omega]
        exact ih u' w' C' t' pc' R' q' _ _ _ _ _ _ _ i' l' g'
      rw [ec]
      refine Ends.eq (b606_10 lq (by omega)) (Ends.b2 (fun z => absurd z (by omega)) (fun _ => Ends.g ⟨by omega, by omega⟩ ?_))
      rw [tn, an0]
      have l1 : LX B n (hset q (B + 162) c (-1)) := lq.setS rfl
      have g1 : Agr (elW B) h (hset q (B + 162) c (-1)) := g.set (Or.inr (Or.inl rfl))
      have eh : ∀ j, hv (hset q (B + 162) c (-1)) (B + 160) j = hv q (B + 160) j := fun j => hv_set_ne (by omega)
      have rw1 : ∀ r, u ≤ r → r < rm → ∀ j, j < 25 → hv (hset q (B + 162) c (-1)) (B + 160) (25 * r + j) = rho 25 w C t (R r) j := fun r a b j hj => by rw [eh]; exact (i.2.2.2.2.2.2.1 r a b).2 j hj
      refine el_find (q0 := hset q (B + 162) c (-1)) (u := u) (rm := rm) (old := fun o j => hv (hset q (B + 162) c (-1)) (B + 160) (25 * o + j)) (by omega) hrm (by omega) (by rw [hv_set_ne (by omega)]; exact i.2.2.1.1) l1 (fun _ _ _ _ => rfl) (fun r1 u4 u5 u6 u7 u8 u9 a1 a2 a3 a4 => ?_) (rm - u) u _ _ _ _ _ _ (by omega) (Nat.le_refl u) (fun r a b => absurd b (by omega))
      refine Ends.eq (b606_53 l1 (by omega)) ?_
      rw [hv_set_ne (by omega), i.2.2.1.1]
      refine Ends.b1 (fun y => ?_) (fun y => ?_)
      · have hr : r1 < rm := by omega
        have z : rho 25 w C t (R r1) c ≠ 0 := by rw [← rw1 r1 a1 hr c (by omega)]; exact a4 hr
        obtain ⟨R', eR⟩ : ∃ R' : Nat → Nat → Int, R' = fun o => if o = u then R r1 else if o = r1 then R u else R o := ⟨_, rfl⟩
        have ru : R' u = R r1 := by rw [eR]; exact if_pos rfl
        have z' : rho 25 w C t (R' u) c ≠ 0 := by rw [ru]; exact z
        have cc : C c = false := by
          cases e : C c
          · rfl
          · have := (i.2.2.2.1 c e).1
            omega
        have rbR : ∀ r, u ≤ r → r < rm → RB (R' r) := fun r a b => by
          refine (hA _ ?_).1
          rw [eR]
          by_cases e1 : r = u
          · simp only [if_pos e1]; exact (i.2.2.2.2.2.2.1 r1 a1 hr).1
          · by_cases e2 : r = r1
            · simp only [if_neg e1, if_pos e2]; exact (i.2.2.2.2.2.2.1 u (Nat.le_refl u) (by omega)).1
            · simp only [if_neg e1, if_neg e2]; exact (i.2.2.2.2.2.2.1 r a b).1
        obtain ⟨qc, qb, -⟩ := i.1
        obtain ⟨s1, s2, s3, s4⟩ := qc.step (show c < 25 by omega) cc z'
        have qb' := qb.step (rbR u (Nat.le_refl u) (by omega))
        refine el_swap (q0 := hset q (B + 162) c (-1)) (old := fun o j => hv (hset q (B + 162) c (-1)) (B + 160) (25 * o + j)) (by omega) (by omega) (by omega) (by omega) (fun q2 u7 u8 u9 l2 g2 h2 => ?_) 25 0 _ _ _ _ _ _ (by omega) l1 Agr.rf (fun o j' _ _ => by rw [if_neg (Nat.not_lt_zero _)])
        have ev1 : ∀ o j, o < rm → j < 25 → hv q2 (B + 160) (25 * o + j) = if o < u then jac 25 w C t (pc o) j else rho 25 w C t (R' o) j := fun o j ho hj => by
          rw [h2 o j (by omega) hj]
          by_cases e1 : o = u
          · rw [if_pos e1, if_neg (by omega), e1, ru]; exact rw1 r1 a1 hr j hj
          · rw [if_neg e1]
            by_cases e2 : o = r1
            · rw [if_pos e2, if_neg (by omega), eR]
              simp only [if_neg e1, if_pos e2]
              exact rw1 u (Nat.le_refl u) (by omega) j hj
            · rw [if_neg e2]
              by_cases e3 : o < u
              · rw [if_pos e3, eh]
                exact (i.2.2.2.2.1 o e3).2.2 j hj
              · rw [if_neg e3, eR]
                simp only [if_neg e1, if_neg e2]
                exact rw1 o (by omega) ho j hj
        have ep : hv (hset q (B + 162) c (-1)) (B + 160) (25 * r1 + c) = rho 25 w C t (R' u) c := by rw [ru]; exact rw1 r1 a1 hr c (by omega)
        show Ends (ev PP (gsF gv) B d 606 148 [(2, rf (B + 149)), (0, (u : Int)), (0, (c : Int)), (0, (r1 : Int)), (1, hv (hset q (B + 162) c (-1)) (B + 160) (25 * r1 + c)), (9, 0), (0, 0), u7, u8, u9] [] q2) Q
        rw [ep]
        refine el_rows (q0 := q2) (rm := rm) (sc := t * w C) (old := fun o j => if o < u then jac 25 w C t (pc o) j else rho 25 w C t (R' o) j) (nw := fun o j => if o < u then jac 25 (wdg 25 w (R' u)) (pls C c) (t * sgp (pls C c) c 25) (pc o) j else rho 25 (wdg 25 w (R' u)) (pls C c) (t * sgp (pls C c) c 25) (R' o) j) (by omega) hrm (by omega) (by omega) ?_ ?_ qc.2.1 (de_lo qb (by omega) qc.1 ilo) (rho_lo qb (by omega) qc.1 ilo (rbR u (Nat.le_refl u) (by omega)) (by omega)) ?_ (fun o ho => ?_) (fun o j ho hj => ?_) (fun o j ho hou hj => ?_) (fun o j ho hou hj => ?_) (fun q3 u7 u8 u9 l3 g3 h3 => ?_) rm 0 q2 _ _ _ (by omega) l2 Agr.rf (fun o j ho hj => ?_)
        · rw [g2.at _ _ (by omega), hv_set_ne (by omega)]; exact i.2.2.1.1
        · rw [g2.at _ _ (by omega), hv_set_ne (by omega)]; exact i.2.2.1.2
        · simp only [if_neg (Nat.lt_irrefl u)]
        · show mB (if o < u then _ else _)
          split
          · exact jac_lo qb (by omega) qc.1 ilo (by omega)
          · exact rho_lo qb (by omega) qc.1 ilo (rbR o (by omega) ho) (by omega)
        · show cn 1 (if o < u then _ else _)
          split
          · exact jac_cn qb (by omega) qc.1
          · exact rho_cn qb (by omega) qc.1 (rbR o (by omega) ho) hj
        · show cn 1 (if o < u then _ else _)
          split
          · exact jac_cn qb' (by omega) s4.1
          · exact rho_cn qb' (by omega) s4.1 (rbR o (by omega) ho) hj
        · simp only [if_neg (Nat.lt_irrefl u)]
          by_cases e3 : o < u
          · simp only [if_pos e3]
            obtain ⟨b1, -, -⟩ := i.2.2.2.2.1 o e3
            rw [s3 (pc o) j (by have := i.2.2.2.1 _ b1; omega) b1 hj]
            grind
          · simp only [if_neg e3]
            rw [qc.row (v := R' o) (show c < 25 by omega) cc z' hj]
            grind
        · have gg : Agr (fun c' k => c' = B + 160 ∨ (c' = B + 162 ∧ k = c)) q q3 := ((Agr.rf.set (W := fun c' k => c' = B + 160 ∨ (c' = B + 162 ∧ k = c)) (Or.inr ⟨rfl, rfl⟩)).tr g2 (fun c k y => Or.inl y)).tr g3 (fun c k y => Or.inl y)
          have i' := i.tell (q' := q3) (fun v hv0 => (hA v hv0).1) a1 hr z eR gg (fun o j ho hj => by
            rw [h3 o j ho hj]
            by_cases e1 : o = u
            · rw [if_pos e1, if_pos e1, if_neg (by omega)]
            · rw [if_neg e1, if_neg e1])
          refine back _ (u + 1) _ _ _ _ _ _ _ _ _ _ _ _ i' ((LX.setF 149 37 l3 (by decide +kernel)).setS rfl) (((g1.tr g2 (fun c k y => Or.inl y)).tr g3 (fun c k y => Or.inl y)).set (Or.inr (Or.inr ⟨rfl, rfl⟩)) |>.set (Or.inr (Or.inl rfl)))
        · rw [ev1 o j ho hj, if_neg (show ¬ (o < 0 ∧ o ≠ u) from fun y => Nat.not_lt_zero o y.1)]
      · obtain rfl : r1 = rm := by omega
        exact back _ u w C t pc R _ _ _ _ _ _ _ (i.skip (fun r a b => by rw [← rw1 r a b c (by omega)]; exact a3 r a b)) l1 g1
  refine Ends.eq (b606_0 l (by omega)) ?_
  have fin : GjI B (hset h (B + 149) 37 1) A rm 24 0 (w0 25) (fun _ => false) 1 (fun _ => 0) R0 := by
    refine ⟨⟨Cra.ini, GB.ini, Spn.ini⟩, by omega, ⟨?_, ?_⟩, fun j hj => absurd hj Bool.false_ne_true, fun k hk => absurd hk (Nat.not_lt_zero k), fun j a b => absurd a (by omega), fun r _ hr => ⟨(hR r hr).1, fun j hj => ?_⟩, fun v hv0 => Or.inr ?_⟩
    · rw [hv_set_ne (by omega)]; exact e35
    · rw [hv_set_at]
      have e : w0 25 (fun _ => false) = 1 := by unfold w0; rw [if_pos (emS_iff.mpr (fun _ _ => rfl))]
      rw [e]; rfl
    · rw [hv_set_ne (by omega), rho_ini]; exact (hR r hr).2 j hj
    · obtain ⟨r, hr, e⟩ := (hA v hv0).2
      exact ⟨r, Nat.zero_le r, hr, e⟩
  have go := main 24 0 (w0 25) (fun _ => false) 1 (fun _ => 0) R0 _ (9, 0) (9, 0) (9, 0) (9, 0) (9, 0) (9, 0) (9, 0) fin (LX.setF 149 37 l (by decide +kernel)) (Agr.rf.set (Or.inr (Or.inr ⟨rfl, rfl⟩)))
  rw [show ((24 : Nat) : Int) - 1 = 23 by decide] at go
  exact go
end ELIM
