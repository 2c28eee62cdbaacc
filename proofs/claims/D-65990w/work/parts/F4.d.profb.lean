/-! L3: profiles (desk): the walk -/
section P430
variable {gv : Nat → Int} {B n d s np nl nd nk : Nat} {h : AH} {c : Nat → Int} {ab be dw : Nat → Int} {lv dlv dgk : Nat → Bool} {fr to_ dc : Nat → Nat} {cs : Nat → Cst} {w xa xb xc dr : Nat → Int} {isC gk : Nat → Bool} {Inv : AH → Prop} {W : Nat → Nat → Prop}
/-- what a profile writes -/
def pfW (B : Nat) : Nat → Nat → Prop := fun c k => (B + 69 ≤ c ∧ c ≤ B + 80) ∨ (c = B + 56 ∧ k = 23)
/-- radii of discs -/
def GvR (gv : Nat → Int) (B n s nd : Nat) (W : Nat → Nat → Prop) (dlv dgk : Nat → Bool) (dw : Nat → Int) (Inv : AH → Prop) : Prop := ∀ (k d' : Nat) (q : AH), k < nd → dlv k = true → LX B n q → 402 ≤ d' → Inv q → Vt 0 (cll PP (ev PP (gsF gv) B) d' 201 [(2, rf (B + 7)), (0, ((diA s k + 2 : Nat) : Int))] q) (fun x q' => Agr W q q' ∧ Inv q' ∧ x = b2i (dgk k) ∧ (dgk k = true → hv q' (B + 7) 22 = dw k))
def dpW (W : Nat → Nat → Prop) (B : Nat) : Nat → Nat → Prop := fun c k => W c k ∨ pfW B c k
theorem v381_set {t : AH} {a k : Nat} {x y z : Int} (h : a ≠ B + 66) : v381 B (hset t a k x) y z = v381 B t y z := by
  unfold v381
  exact hv_set_ne (by omega)
theorem v447_set {t : AH} {a k : Nat} {x y : Int} (h : a ≠ B + 2) : v447 B (hset t a k x) y = v447 B t y := by
  unfold v447
  exact hv_set_ne (by omega)
theorem q381_is {t : AH} {j : Nat} (hs : s < 6) (hj : j < 24) : q381 B t (s : Int) (j : Int) ∧ v381 B t (s : Int) (j : Int) = hv t (B + 66) (24 * s + j) := by
  have ix : bop32 96 (bop32 104 24 (s : Int)) (j : Int) = ((24 * s + j : Nat) : Int) := by
    rw [show bop32 104 24 (s : Int) = ((24 * s : Nat) : Int) from mulNN (x := 24) (by omega)]
    exact addNN (by omega)
  unfold q381 v381
  rw [ix, tn]
  exact ⟨⟨by omega, by omega⟩, rfl⟩
theorem two_p {p : Nat} (hp : p < 12) : bop32 104 2 (p : Int) = ((2 * p : Nat) : Int) ∧ bop32 96 (bop32 104 2 (p : Int)) 1 = ((2 * p + 1 : Nat) : Int) := by
  have e : bop32 104 2 (p : Int) = ((2 * p : Nat) : Int) := mulNN (x := 2) (by omega)
  exact ⟨e, by rw [e]; exact addK (k := 1) (by omega)⟩
/-- the lines, as far as they are told -/
def St1 (B n : Nat) (q : AH) (ab be : Nat → Int) (lv : Nat → Bool) (fr to_ : Nat → Nat) (k : Nat) : Prop := ∀ j, j < k → hv q (B + 77) j = b2i (lv j) ∧ (lv j = true → (hv q (B + 69) j = lU0 ab fr j ∧ hv q (B + 70) j = lV0 ab fr j ∧ hv q (B + 71) j = lU0 ab to_ j ∧ hv q (B + 72) j = lV0 ab to_ j) ∧ whB n ab be (fr j) = true ∧ whB n ab be (to_ j) = true)
theorem whB_is {p : Nat} (h : whB n ab be p = true) : (0 ≤ ab (2 * p) ∧ ab (2 * p) ≤ (n : Int)) ∧ (0 ≤ ab (2 * p + 1) ∧ ab (2 * p + 1) ≤ (n : Int)) := by
  unfold whB at h
  rw [Bool.and_eq_true, decide_eq_true_eq, decide_eq_true_eq] at h
  exact ⟨h.1.2, h.2.2⟩
/-- what a good profile leaves -/
def PfS (B n : Nat) (q : AH) (wall : Bool) (ab : Nat → Int) (lv : Nat → Bool) (fr to_ : Nat → Nat) (nd : Nat) (dlv : Nat → Bool) (dc : Nat → Nat) (dw : Nat → Int) : Prop := (SgD B q lv (lU0 ab fr) (lV0 ab fr) (lU0 ab to_) (lV0 ab to_) ∧ ∀ k, k < 24 → lv k = true → SgK n (lU0 ab fr) (lV0 ab fr) (lU0 ab to_) (lV0 ab to_) (lDU ab fr to_) (lDV ab fr to_) (lSZ ab fr to_) k ∧ hv q (B + 73) k = lDU ab fr to_ k ∧ hv q (B + 74) k = lDV ab fr to_ k ∧ hv q (B + 75) k = lSZ ab fr to_ k) ∧ (wall = false → hv q (B + 56) 23 = ((cntN dlv nd : Nat) : Int) ∧ ∀ k, k < nd → dlv k = true → hv q (B + 78) (cntN dlv k) = ab (2 * dc k) ∧ hv q (B + 79) (cntN dlv k) = ab (2 * dc k + 1) ∧ hv q (B + 80) (cntN dlv k) = dw k ∧ 1 ≤ dw k ∧ dw k ≤ (n : Int))
theorem cnt_ltl {S : Nat → Bool} {i k : Nat} (h : i < k) (hi : S i = true) : cntN S i < cntN S k := by
  induction k with
  | zero => omega
  | succ k ih =>
    rw [cntN_s]
    by_cases e : i = k
    · rw [← e, hi, if_pos rfl]; omega
    · have := ih (by omega)
      omega
theorem v200_set {t : AH} {a k : Nat} {x : Int} (h : a ≠ B + 7) : v200 B (hset t a k x) = v200 B t := by
  unfold v200
  exact hv_set_ne (by omega)
/-- the half of it that lines are -/
def HfS (B n : Nat) (q : AH) (ab : Nat → Int) (lv : Nat → Bool) (fr to_ : Nat → Nat) : Prop := SgD B q lv (lU0 ab fr) (lV0 ab fr) (lU0 ab to_) (lV0 ab to_) ∧ ∀ k, k < 24 → lv k = true → SgK n (lU0 ab fr) (lV0 ab fr) (lU0 ab to_) (lV0 ab to_) (lDU ab fr to_) (lDV ab fr to_) (lSZ ab fr to_) k ∧ hv q (B + 73) k = lDU ab fr to_ k ∧ hv q (B + 74) k = lDV ab fr to_ k ∧ hv q (B + 75) k = lSZ ab fr to_ k
theorem HfS.agr {q : AH} {W' : Nat → Nat → Prop} (H : HfS B n h ab lv fr to_) (g : Agr W' h q) (hW : ∀ c k, W' c k → c < B + 69 ∨ B + 77 < c) : HfS B n q ab lv fr to_ := by
  have at_ : ∀ c k, B + 69 ≤ c → c ≤ B + 77 → hv q c k = hv h c k := fun c k h1 h2 => g.at _ _ (fun z => by have := hW _ _ z; omega)
  refine ⟨fun k hk => ?_, fun k hk z => ?_⟩
  · obtain ⟨a1, a2⟩ := H.1 k hk
    refine ⟨by rw [at_ _ _ (by omega) (by omega)]; exact a1, fun z => ?_⟩
    obtain ⟨b1, b2, b3, b4⟩ := a2 z
    exact ⟨by rw [at_ _ _ (by omega) (by omega)]; exact b1, by rw [at_ _ _ (by omega) (by omega)]; exact b2, by rw [at_ _ _ (by omega) (by omega)]; exact b3, by rw [at_ _ _ (by omega) (by omega)]; exact b4⟩
  · obtain ⟨a1, a2, a3, a4⟩ := H.2 k hk z
    exact ⟨a1, by rw [at_ _ _ (by omega) (by omega)]; exact a2, by rw [at_ _ _ (by omega) (by omega)]; exact a3, by rw [at_ _ _ (by omega) (by omega)]; exact a4⟩
def St3 (B : Nat) (q : AH) (ab : Nat → Int) (lv : Nat → Bool) (fr to_ : Nat → Nat) (k : Nat) : Prop := ∀ j, j < k → lv j = true → ¬ badD (lU0 ab to_ j - lU0 ab fr j) (lV0 ab to_ j - lV0 ab fr j) ∧ hv q (B + 73) j = lDU ab fr to_ j ∧ hv q (B + 74) j = lDV ab fr to_ j ∧ hv q (B + 75) j = lSZ ab fr to_ j
theorem half1 {q : AH} (s1 : St1 B n q ab be lv fr to_ 24) (s3 : St3 B q ab lv fr to_ 24) : HfS B n q ab lv fr to_ := by
  refine ⟨fun k hk => ⟨(s1 k hk).1, fun z => ((s1 k hk).2 z).1⟩, fun k hk z => ?_⟩
  obtain ⟨-, w1, w2⟩ := (s1 k hk).2 z
  obtain ⟨nb, e1, e2, e3⟩ := s3 k hk z
  obtain ⟨⟨q1, q2⟩, q3, q4⟩ := seg_ok nb
  have b1 := whB_is w1
  have b2 := whB_is w2
  refine ⟨⟨⟨q1, q2⟩, ⟨?_, ?_⟩, b1.1, b1.2, b2.1, b2.2, ?_⟩, e1, e2, e3⟩
  · show lU0 ab to_ k = lU0 ab fr k + sz8 (lU0 ab to_ k - lU0 ab fr k) (lV0 ab to_ k - lV0 ab fr k) * sg3 (lU0 ab to_ k - lU0 ab fr k)
    rw [← q3]; omega
  · show lV0 ab to_ k = lV0 ab fr k + sz8 (lU0 ab to_ k - lU0 ab fr k) (lV0 ab to_ k - lV0 ab fr k) * sg3 (lV0 ab to_ k - lV0 ab fr k)
    rw [← q4]; omega
  · show max (if ab (2 * to_ k) - ab (2 * fr k) < 0 then -(ab (2 * to_ k) - ab (2 * fr k)) else ab (2 * to_ k) - ab (2 * fr k)) (if ab (2 * to_ k + 1) - ab (2 * fr k + 1) < 0 then -(ab (2 * to_ k + 1) - ab (2 * fr k + 1)) else ab (2 * to_ k + 1) - ab (2 * fr k + 1)) ≤ (n : Int)
    clear q1 q2 q3 q4 e1 e2 e3 nb
    omega
set_option maxHeartbeats 4000000 in
/-- behind the points: steps, radii, ends, pairs -/
theorem c_profB {most : Int} {Q : Rs → Prop} (l : LX B n h) (n64 : n ≤ 64) (hd : 414 ≤ d) (hs : s < 6) (hC : ∀ q, Inv q → ∀ z, z < 37368 → hv q (B + 2) z = c z) (i0 : Inv h) (hP : ∀ q q', Inv q → Agr (pfW B) q q' → Inv q') (hW : ∀ c k, W c k → ¬ pfW B c k ∧ c ≠ B + 66 ∧ c ≠ B + 67) (D : DcD c s np nd dlv dc) (h12 : np ≤ 12) (HR : GvR gv B n s nd W dlv dgk dw Inv) (ha : ∀ j, j < 2 * np → hv h (B + 66) (24 * s + j) = ab j) (st : St1 B n h ab be lv fr to_ 24) (na2 : ¬ pA2 n ab be lv fr to_ nd dlv dc)
    (K : ∀ x h', Agr (dpW W B) h h' → Inv h' → PrR n (decide (most = 3)) ab be lv fr to_ nd dlv dc dgk dw x → (x = 0 → PfS B n h' (decide (most = 3)) ab lv fr to_ nd dlv dc dw) → Q ((0, (0, x)), h')) (u4 u5 : AV) : Ends (ev PP (gsF gv) B d 430 219 [(2, rf (B + 56)), (0, (s : Int)), (0, most), (0, 0), u4, u5] [] h) Q := by
  have sk0 : skA s < 23000 := by unfold skA; omega
  have n6 := D.1.2
  have diL : ∀ k, k < 6 → diA s k < 30000 := fun k hk => by unfold diA; omega
  -- pairs
  have loop6 : ∀ (q : AH) (x : Int), LX B n q → Agr (dpW W B) h q → Inv q → HfS B n q ab lv fr to_ → (∀ x, (pA6 ab lv fr to_ ∧ x = 6) ∨ (¬ pA6 ab lv fr to_ ∧ x = 0) → Q ((0, (0, x)), q)) → ∀ (u4 u5 : AV), Ends (ev PP (gsF gv) B d 430 589 [(2, rf (B + 56)), (0, (s : Int)), (0, most), (0, 0), u4, u5] [] q) Q := by
    intro q x lq g iq Hf Kx
    have outer : ∀ (r k : Nat) (u4 u5 : AV), k + r = 24 → (∀ j m, j < k → j < m → m < 24 → lv j = true → lv m = true → ¬ MtSk (lU0 ab fr) (lV0 ab fr) (lDU ab fr to_) (lDV ab fr to_) (lSZ ab fr to_) j m) → Ends (ev PP (gsF gv) B d 430 589 [(2, rf (B + 56)), (0, (s : Int)), (0, most), (0, (k : Int)), u4, u5] [] q) Q := by
      intro r
      induction r with
      | zero =>
        intro k u4 u5 ek no
        obtain rfl : k = 24 := by omega
        refine Ends.eq (b430_589 (n := n) (by (repeat' first | assumption | refine LX.setF _ _ ?_ (by decide +kernel) | refine LX.setS ?_ rfl | refine LX.setA ?_ (by first | assumption | omega))) (by first | assumption | omega)) ?_
        refine Ends.b3 (fun _ => Ends.sm (Kx 0 (Or.inr ⟨?_, rfl⟩))) (fun z => absurd z (by decide))
        rintro ⟨j, m, h1, h2, h3, h4, h5⟩
        exact no j m (by omega) h1 h2 h3 h4 h5
      | succ r ih =>
        intro k u4 u5 ek no
        have inner : ∀ (t m : Nat) (u5 : AV), m + t = 24 → k < m → (∀ m', k < m' → m' < m → lv k = true → lv m' = true → ¬ MtSk (lU0 ab fr) (lV0 ab fr) (lDU ab fr to_) (lDV ab fr to_) (lSZ ab fr to_) k m') → Ends (ev PP (gsF gv) B d 430 600 [(2, rf (B + 56)), (0, (s : Int)), (0, most), (0, (k : Int)), (0, (m : Int)), u5] [] q) Q := by
          intro t
          induction t with
          | zero =>
            intro m u5 em km no2
            obtain rfl : m = 24 := by omega
            refine Ends.eq (b430_600 (n := n) (by (repeat' first | assumption | refine LX.setF _ _ ?_ (by decide +kernel) | refine LX.setS ?_ rfl | refine LX.setA ?_ (by first | assumption | omega))) (by first | assumption | omega)) ?_
            refine Ends.b3 (fun _ => ?_) (fun z => absurd z (by decide))
            rw [w_succ (by omega)]
            refine ih (k + 1) _ _ (by omega) (fun j m' h1 h2 h3 h4 h5 => ?_)
            rcases (by omega : j < k ∨ j = k) with y | y
            · exact no j m' y h2 h3 h4 h5
            · rw [y] at h2 h4 ⊢
              exact no2 m' h2 h3 h4 h5
          | succ t iht =>
            intro m u5 em km no2
            have next : (lv k = true → lv m = true → ¬ MtSk (lU0 ab fr) (lV0 ab fr) (lDU ab fr to_) (lDV ab fr to_) (lSZ ab fr to_) k m) → Ends (ev PP (gsF gv) B d 430 639 [(2, rf (B + 56)), (0, (s : Int)), (0, most), (0, (k : Int)), (0, (m : Int)), u5] [] q) Q := fun z => by
              refine Ends.eq (b430_639 (n := n) (by (repeat' first | assumption | refine LX.setF _ _ ?_ (by decide +kernel) | refine LX.setS ?_ rfl | refine LX.setA ?_ (by first | assumption | omega))) (by first | assumption | omega)) ?_
              rw [w_succ (by omega)]
              refine iht (m + 1) _ (by omega) (by omega) (fun m' h1 h2 h3 h4 => ?_)
              rcases (by omega : m' < m ∨ m' = m) with y | y
              · exact no2 m' h1 y h3 h4
              · rw [y] at h4 ⊢; exact z h3 h4
            refine Ends.eq (b430_600 (n := n) (by (repeat' first | assumption | refine LX.setF _ _ ?_ (by decide +kernel) | refine LX.setS ?_ rfl | refine LX.setA ?_ (by first | assumption | omega))) (by first | assumption | omega)) ?_
            simp only [tn]
            rw [(Hf.1 k (by omega)).1, (Hf.1 m (by omega)).1]
            refine Ends.b3 (fun z => absurd z (by omega)) (fun _ => Ends.g ⟨by omega, by omega⟩ ?_)
            cases ek1 : lv k
            · exact Ends.b0 (fun _ => next (fun z => by rw [ek1] at z; cases z)) (fun z => absurd rfl z)
            refine Ends.b0 (fun z => absurd z (by decide)) (fun _ => Ends.g ⟨by omega, by omega⟩ ?_)
            cases em1 : lv m
            · exact Ends.b0 (fun _ => next (fun _ z => by rw [em1] at z; cases z)) (fun z => absurd rfl z)
            obtain ⟨Gk, k1, k2, k3⟩ := Hf.2 k (by omega) ek1
            obtain ⟨Gm, m1, m2, m3⟩ := Hf.2 m (by omega) em1
            obtain ⟨qq, vv⟩ := v395_is n64 (by omega) (by omega) Hf.1 ek1 em1 ⟨k1, k2, k3⟩ ⟨m1, m2, m3⟩ Gk Gm
            refine Ends.b0 (fun z => absurd z (by decide)) (fun _ => Ends.g qq ?_)
            rcases vv with ⟨ve, vb⟩ | ⟨ve, vb⟩
            · rw [ve]
              exact Ends.b0 (fun z => absurd z (by decide)) (fun _ => Ends.sm (Kx 6 (Or.inl ⟨⟨k, m, km, by omega, ek1, em1, vb⟩, rfl⟩)))
            · rw [ve]
              exact Ends.b0 (fun _ => next (fun _ _ => vb)) (fun z => absurd rfl z)
        refine Ends.eq (b430_589 (n := n) (by (repeat' first | assumption | refine LX.setF _ _ ?_ (by decide +kernel) | refine LX.setS ?_ rfl | refine LX.setA ?_ (by first | assumption | omega))) (by first | assumption | omega)) ?_
        refine Ends.b3 (fun z => absurd z (by omega)) (fun _ => ?_)
        rw [show bop32 96 (k : Int) 1 = ((k + 1 : Nat) : Int) from addK (k := 1) (by omega)]
        exact inner (24 - (k + 1)) (k + 1) _ (by omega) (by omega) (fun m' h1 h2 => by omega)
    intro u4 u5
    exact outer 24 0 u4 u5 rfl (fun j m h1 => absurd h1 (Nat.not_lt_zero j))
  -- ends
  have loop5 : ∀ (q : AH), LX B n q → Agr (dpW W B) h q → Inv q → HfS B n q ab lv fr to_ → (∀ x, (pA5 ab lv fr to_ ∧ x = 5) ∨ (¬ pA5 ab lv fr to_ ∧ ((pA6 ab lv fr to_ ∧ x = 6) ∨ (¬ pA6 ab lv fr to_ ∧ x = 0))) → Q ((0, (0, x)), q)) → ∀ (u4 u5 : AV), Ends (ev PP (gsF gv) B d 430 524 [(2, rf (B + 56)), (0, (s : Int)), (0, most), (0, 0), u4, u5] [] q) Q := by
    intro q lq g iq Hf Kx
    have five : ∀ (r k : Nat) (u4 u5 : AV), k + r = 24 → (∀ j, j < k → lv j = true → sumN (enF lv (lU0 ab fr) (lV0 ab fr) (lU0 ab to_) (lV0 ab to_) (lU0 ab fr j) (lV0 ab fr j)) 24 = 2 ∧ sumN (enF lv (lU0 ab fr) (lV0 ab fr) (lU0 ab to_) (lV0 ab to_) (lU0 ab to_ j) (lV0 ab to_ j)) 24 = 2) → Ends (ev PP (gsF gv) B d 430 524 [(2, rf (B + 56)), (0, (s : Int)), (0, most), (0, (k : Int)), u4, u5] [] q) Q := by
      intro r
      induction r with
      | zero =>
        intro k u4 u5 ek ok
        obtain rfl : k = 24 := by omega
        refine Ends.eq (b430_524 (n := n) (by (repeat' first | assumption | refine LX.setF _ _ ?_ (by decide +kernel) | refine LX.setS ?_ rfl | refine LX.setA ?_ (by first | assumption | omega))) (by first | assumption | omega)) ?_
        refine Ends.b3 (fun _ => loop6 q 0 lq g iq Hf (fun x z => Kx x (Or.inr ⟨?_, z⟩)) _ _) (fun z => absurd z (by decide))
        rintro ⟨j, h1, h2, h3⟩
        exact h3 (ok j h1 h2)
      | succ r ih =>
        intro k u4 u5 ek ok
        have next : (lv k = true → sumN (enF lv (lU0 ab fr) (lV0 ab fr) (lU0 ab to_) (lV0 ab to_) (lU0 ab fr k) (lV0 ab fr k)) 24 = 2 ∧ sumN (enF lv (lU0 ab fr) (lV0 ab fr) (lU0 ab to_) (lV0 ab to_) (lU0 ab to_ k) (lV0 ab to_ k)) 24 = 2) → Ends (ev PP (gsF gv) B d 430 581 [(2, rf (B + 56)), (0, (s : Int)), (0, most), (0, (k : Int)), u4, u5] [] q) Q := fun z => by
          refine Ends.eq (b430_581 (n := n) (by (repeat' first | assumption | refine LX.setF _ _ ?_ (by decide +kernel) | refine LX.setS ?_ rfl | refine LX.setA ?_ (by first | assumption | omega))) (by first | assumption | omega)) ?_
          rw [w_succ (by omega)]
          refine ih (k + 1) _ _ (by omega) (fun j hj y => ?_)
          rcases (by omega : j < k ∨ j = k) with u | u
          · exact ok j u y
          · rw [u] at y ⊢; exact z y
        obtain ⟨a1, a2⟩ := Hf.1 k (by omega)
        refine Ends.eq (b430_524 (n := n) (by (repeat' first | assumption | refine LX.setF _ _ ?_ (by decide +kernel) | refine LX.setS ?_ rfl | refine LX.setA ?_ (by first | assumption | omega))) (by first | assumption | omega)) ?_
        simp only [tn]
        rw [a1]
        refine Ends.b3 (fun z => absurd z (by omega)) (fun _ => Ends.g ⟨by omega, by omega⟩ ?_)
        cases ek1 : lv k
        · exact Ends.b0 (fun _ => next (fun z => by rw [ek1] at z; cases z)) (fun z => absurd rfl z)
        obtain ⟨c1, c2, c3, c4⟩ := a2 ek1
        have bad : ¬ (sumN (enF lv (lU0 ab fr) (lV0 ab fr) (lU0 ab to_) (lV0 ab to_) (lU0 ab fr k) (lV0 ab fr k)) 24 = 2 ∧ sumN (enF lv (lU0 ab fr) (lV0 ab fr) (lU0 ab to_) (lV0 ab to_) (lU0 ab to_ k) (lV0 ab to_ k)) 24 = 2) → Ends (ev PP (gsF gv) B d 430 579 [(2, rf (B + 56)), (0, (s : Int)), (0, most), (0, (k : Int)), u4, u5] [] q) Q := fun z => by
          refine Ends.eq (b430_579 (n := n) (by (repeat' first | assumption | refine LX.setF _ _ ?_ (by decide +kernel) | refine LX.setS ?_ rfl | refine LX.setA ?_ (by first | assumption | omega))) (by first | assumption | omega)) ?_
          exact Ends.sm (Kx 5 (Or.inl ⟨⟨k, by omega, ek1, z⟩, rfl⟩))
        rw [c1, c2]
        refine Ends.b0 (fun z => absurd z (by decide)) (fun _ => ?_)
        refine Ends.ct lq (by decide +kernel) (by decide) (c_ends401 lq (by omega) Hf.1) (fun y q2 l2 _ _ _ ⟨eq2_, ey⟩ => ?_)
        subst eq2_
        refine Ends.eq (b430_555 (n := n) (by (repeat' first | assumption | refine LX.setF _ _ ?_ (by decide +kernel) | refine LX.setS ?_ rfl | refine LX.setA ?_ (by first | assumption | omega))) (by first | assumption | omega)) ?_
        rw [ey, tn, c3, c4]
        refine Ends.b1 (fun z => bad (fun y => z (by rw [y.1]; rfl))) (fun z => Ends.g ⟨by omega, by omega⟩ ?_)
        refine Ends.ct l2 (by decide +kernel) (by decide) (c_ends401 l2 (by omega) Hf.1) (fun y q3 l3 _ _ _ ⟨eq3_, ey⟩ => ?_)
        subst eq3_
        refine Ends.eq (b430_575 (n := n) (by (repeat' first | assumption | refine LX.setF _ _ ?_ (by decide +kernel) | refine LX.setS ?_ rfl | refine LX.setA ?_ (by first | assumption | omega))) (by first | assumption | omega)) ?_
        rw [ey]
        exact Ends.b0 (fun z2 => next (fun _ => ⟨by omega, by omega⟩)) (fun z => bad (fun y => z (by rw [y.2]; rfl)))
    intro u4 u5
    exact five 24 0 u4 u5 rfl (fun j hj => absurd hj (Nat.not_lt_zero j))
  -- radii
  have loop4 : ∀ (r k : Nat) (q : AH) (u4 u5 : AV), k + r = nd → LX B n q → Agr (dpW W B) h q → Inv q → HfS B n q ab lv fr to_ → ¬ pA3 ab lv fr to_ → ¬ most = 3 → hv q (B + 56) 23 = ((cntN dlv k : Nat) : Int) → (∀ j, j < k → dlv j = true → dgk j = true ∧ hv q (B + 78) (cntN dlv j) = ab (2 * dc j) ∧ hv q (B + 79) (cntN dlv j) = ab (2 * dc j + 1) ∧ hv q (B + 80) (cntN dlv j) = dw j ∧ 1 ≤ dw j ∧ dw j ≤ (n : Int)) → Ends (ev PP (gsF gv) B d 430 365 [(2, rf (B + 56)), (0, (s : Int)), (0, most), (0, (k : Int)), u4, u5] [] q) Q := by
    intro r
    induction r with
    | zero =>
      intro k q u4 u5 ek lq g iq Hf na3 z3 e56 ok
      obtain rfl : k = nd := by omega
      obtain ⟨a1, a2⟩ := v398_is (hC _ iq) hs D
      have na4 : ¬ pA4 n k dlv dgk dw := fun ⟨j, h1, h2, h3⟩ => h3 ⟨(ok j h1 h2).1, (ok j h1 h2).2.2.2.2.1, (ok j h1 h2).2.2.2.2.2⟩
      refine Ends.eq (b430_365 (n := n) (by (repeat' first | assumption | refine LX.setF _ _ ?_ (by decide +kernel) | refine LX.setS ?_ rfl | refine LX.setA ?_ (by first | assumption | omega))) (by first | assumption | omega)) ?_
      rw [a2]
      exact Ends.g a1 (Ends.b3 (fun _ => loop5 q lq g iq Hf (fun x z => K x q g iq (Or.inr ⟨na2, Or.inr ⟨na3, Or.inr ⟨decide_eq_false z3, Or.inr ⟨na4, z⟩⟩⟩⟩) (fun _ => ⟨Hf, fun _ => ⟨e56, fun j hj y => (ok j hj y).2⟩⟩)) _ _) (fun z => absurd z (Int.lt_irrefl _)))
    | succ r ih =>
      intro k q u4 u5 ek lq g iq Hf na3 z3 e56 ok
      obtain ⟨a1, a2⟩ := v398_is (hC _ iq) hs D
      obtain ⟨b1, b2⟩ := v408_is (k := k) (hC _ iq) hs D (by omega)
      obtain ⟨f1, f2, f3⟩ := D.2 k (by omega)
      have dk := diL k (by omega)
      have ck : cntN dlv k ≤ k := cntN_le _ _
      have next : ∀ (q' : AH), LX B n q' → Agr (dpW W B) h q' → Inv q' → HfS B n q' ab lv fr to_ → hv q' (B + 56) 23 = ((cntN dlv (k + 1) : Nat) : Int) → (∀ j, j < k + 1 → dlv j = true → dgk j = true ∧ hv q' (B + 78) (cntN dlv j) = ab (2 * dc j) ∧ hv q' (B + 79) (cntN dlv j) = ab (2 * dc j + 1) ∧ hv q' (B + 80) (cntN dlv j) = dw j ∧ 1 ≤ dw j ∧ dw j ≤ (n : Int)) → Ends (ev PP (gsF gv) B d 430 516 [(2, rf (B + 56)), (0, (s : Int)), (0, most), (0, (k : Int)), u4, u5] [] q') Q := fun q' l' g' i' H' e' ok' => by
        refine Ends.eq (b430_516 (n := n) (by (repeat' first | assumption | refine LX.setF _ _ ?_ (by decide +kernel) | refine LX.setS ?_ rfl | refine LX.setA ?_ (by first | assumption | omega))) (by first | assumption | omega)) ?_
        rw [w_succ (by omega)]
        exact ih (k + 1) q' _ _ (by omega) l' g' i' H' na3 z3 e' ok'
      refine Ends.eq (b430_365 (n := n) (by (repeat' first | assumption | refine LX.setF _ _ ?_ (by decide +kernel) | refine LX.setS ?_ rfl | refine LX.setA ?_ (by first | assumption | omega))) (by first | assumption | omega)) ?_
      rw [a2, b2, v396_is hs (by omega), show bop32 96 ((diA s k : Nat) : Int) 2 = ((diA s k + 2 : Nat) : Int) from addK (k := 2) (by omega)]
      refine Ends.g a1 (Ends.b3 (fun z => absurd z (by omega)) (fun _ => Ends.g b1 ?_))
      cases ed : dlv k
      · refine Ends.b1 (fun z => absurd rfl z) (fun _ => next q lq g iq Hf (by rw [e56, cntN_s, ed]; rfl) (fun j hj y => ?_))
        rcases (by omega : j < k ∨ j = k) with u | u
        · exact ok j u y
        · rw [u, ed] at y; cases y
      refine Ends.b1 (fun _ => ?_) (fun z => absurd z (by decide))
      refine Ends.ct lq (by decide +kernel) (by decide) (HR k d q (by omega) ed lq (by omega) iq) (fun y q2 l2 _ _ _ ⟨g2, i2, ey, e22⟩ => ?_)
      have G2 : Agr (dpW W B) h q2 := g.tr g2 (fun _ _ z => Or.inl z)
      have Hf2 : HfS B n q2 ab lv fr to_ := Hf.agr g2 (fun c k z => by
        have := (hW c k z).1
        unfold pfW at this
        omega)
      have pf_ : ∀ a j, pfW B a j → hv q2 a j = hv q a j := fun a j z => g2.at _ _ (fun u => (hW _ _ u).1 z)
      have e56' : hv q2 (B + 56) 23 = ((cntN dlv k : Nat) : Int) := by rw [pf_ _ _ (Or.inr ⟨rfl, rfl⟩)]; exact e56
      have ok2 : ∀ j, j < k → dlv j = true → dgk j = true ∧ hv q2 (B + 78) (cntN dlv j) = ab (2 * dc j) ∧ hv q2 (B + 79) (cntN dlv j) = ab (2 * dc j + 1) ∧ hv q2 (B + 80) (cntN dlv j) = dw j ∧ 1 ≤ dw j ∧ dw j ≤ (n : Int) := fun j hj y => by
        rw [pf_ _ _ (Or.inl ⟨by omega, by omega⟩), pf_ _ _ (Or.inl ⟨by omega, by omega⟩), pf_ _ _ (Or.inl ⟨by omega, by omega⟩)]
        exact ok j hj y
      have bad : ¬ (dgk k = true ∧ 1 ≤ dw k ∧ dw k ≤ (n : Int)) → Ends (ev PP (gsF gv) B d 430 428 [(2, rf (B + 56)), (0, (s : Int)), (0, most), (0, (k : Int)), u4, u5] [] q2) Q := fun z => by
        refine Ends.eq (b430_428 (n := n) (by (repeat' first | assumption | refine LX.setF _ _ ?_ (by decide +kernel) | refine LX.setS ?_ rfl | refine LX.setA ?_ (by first | assumption | omega))) (by first | assumption | omega)) ?_
        exact Ends.sm (K 4 q2 G2 i2 (Or.inr ⟨na2, Or.inr ⟨na3, Or.inr ⟨decide_eq_false z3, Or.inl ⟨⟨k, by omega, ed, z⟩, rfl⟩⟩⟩⟩) (fun z => absurd z (by decide)))
      have dl := f3 ed
      obtain ⟨p1, p2⟩ := cell_is (i := diA s k) (hC _ i2) (by omega)
      have r0 : hv q2 (B + 66) (24 * s + 2 * dc k) = ab (2 * dc k) := by
        rw [G2.at _ _ (fun z => by
          rcases z with z | z
          · exact (hW _ _ z).2.1 rfl
          · unfold pfW at z; omega)]
        exact ha _ (by omega)
      have r1 : hv q2 (B + 66) (24 * s + (2 * dc k + 1)) = ab (2 * dc k + 1) := by
        rw [G2.at _ _ (fun z => by
          rcases z with z | z
          · exact (hW _ _ z).2.1 rfl
          · unfold pfW at z; omega)]
        exact ha _ (by omega)
      have wd : whB n ab be (dc k) = true := by
        cases e : whB n ab be (dc k)
        · exact absurd (Or.inr ⟨k, by omega, ed, e⟩) na2
        · rfl
      have wb := whB_is wd
      refine Ends.eq (b430_400 (n := n) (by (repeat' first | assumption | refine LX.setF _ _ ?_ (by decide +kernel) | refine LX.setS ?_ rfl | refine LX.setA ?_ (by first | assumption | omega))) (by first | assumption | omega)) ?_
      rw [ey]
      cases eg : dgk k
      · exact Ends.b0 (fun _ => bad (fun z => by rw [eg] at z; exact Bool.false_ne_true z.1)) (fun z => absurd rfl z)
      have v20 : v200 B q2 = dw k := e22 eg
      simp only [v447_set (show B + 78 ≠ B + 2 by omega), v381_set (show B + 78 ≠ B + 66 by omega), v200_set (show B + 78 ≠ B + 7 by omega), v200_set (show B + 79 ≠ B + 7 by omega), v20, e56', v396_is hs (show k < 6 by omega), p2, f1, (two_p (p := dc k) (by omega)).1, show bop32 96 ((2 * dc k : Nat) : Int) 1 = ((2 * dc k + 1 : Nat) : Int) from addK (k := 1) (by omega), (q381_is (t := q2) (j := 2 * dc k) hs (by omega)).2, (q381_is (t := q2) (j := 2 * dc k + 1) hs (by omega)).2, r0, r1, tn, an0, uop3]
      rw [w32_id (x := ab (2 * dc k)) ⟨by omega, by omega⟩, w32_id (x := ab (2 * dc k + 1)) ⟨by omega, by omega⟩, show bop32 96 ((cntN dlv k : Nat) : Int) 1 = ((cntN dlv k + 1 : Nat) : Int) from addK (k := 1) (by omega)]
      refine Ends.b0 (fun z => absurd z (by decide)) (fun _ => Ends.b2 (fun z => bad (fun u => by omega)) (fun z1 => Ends.b5 (fun z2 => Ends.g p1 (Ends.g (q381_is hs (by omega)).1 (Ends.g ⟨by omega, by omega⟩ (Ends.g p1 (Ends.g (q381_is hs (by omega)).1 ?_))))) (fun z => bad (fun u => by omega))))
      have g4 : Agr (fun c k => c = B + 56 ∧ k = 23 ∨ c = B + 78 ∨ c = B + 79 ∨ c = B + 80) q2 (hset (hset (hset (hset q2 (B + 78) (cntN dlv k) (ab (2 * dc k))) (B + 79) (cntN dlv k) (ab (2 * dc k + 1))) (B + 80) (cntN dlv k) (dw k)) (B + 56) 23 ((cntN dlv k + 1 : Nat) : Int)) := (((Agr.rf.set (Or.inr (Or.inl rfl))).set (Or.inr (Or.inr (Or.inl rfl)))).set (Or.inr (Or.inr (Or.inr rfl)))).set (Or.inl ⟨rfl, rfl⟩)
      have g4p : Agr (pfW B) q2 (hset (hset (hset (hset q2 (B + 78) (cntN dlv k) (ab (2 * dc k))) (B + 79) (cntN dlv k) (ab (2 * dc k + 1))) (B + 80) (cntN dlv k) (dw k)) (B + 56) 23 ((cntN dlv k + 1 : Nat) : Int)) := g4.sub (fun c k z => by unfold pfW; omega)
      refine next _ (LX.setF 56 23 (((l2.setS rfl).setS rfl).setS rfl) (by decide +kernel)) (G2.tr g4p (fun _ _ z => Or.inr z)) (hP _ _ i2 g4p) (Hf2.agr g4 (fun c k z => by omega)) ?_ (fun j hj y => ?_)
      · rw [hv_set_at, cntN_s, ed]; rfl
      · rcases (by omega : j < k ∨ j = k) with u | u
        · obtain ⟨o1, o2, o3, o4, o5⟩ := ok2 j u y
          have lt : cntN dlv j < cntN dlv k := cnt_ltl u y
          refine ⟨o1, ?_, ?_, ?_, o5⟩
          · rw [hv_set_ne (by omega), hv_set_ne (by omega), hv_set_ne (by omega), hv_set_ne (by omega)]; exact o2
          · rw [hv_set_ne (by omega), hv_set_ne (by omega), hv_set_ne (by omega), hv_set_ne (by omega)]; exact o3
          · rw [hv_set_ne (by omega), hv_set_ne (by omega), hv_set_ne (by omega), hv_set_ne (by omega)]; exact o4
        · rw [u]
          refine ⟨eg, ?_, ?_, ?_, z1, z2⟩
          · rw [hv_set_ne (by omega), hv_set_ne (by omega), hv_set_ne (by omega), hv_set_at]
          · rw [hv_set_ne (by omega), hv_set_ne (by omega), hv_set_at]
          · rw [hv_set_ne (by omega), hv_set_at]
  -- steps and lengths
  have loop3 : ∀ (r k : Nat) (q : AH) (u4 u5 : AV), k + r = 24 → LX B n q → Agr (dpW W B) h q → Inv q → St1 B n q ab be lv fr to_ 24 → St3 B q ab lv fr to_ k → Ends (ev PP (gsF gv) B d 430 219 [(2, rf (B + 56)), (0, (s : Int)), (0, most), (0, (k : Int)), u4, u5] [] q) Q := by
    intro r
    induction r with
    | zero =>
      intro k q u4 u5 ek lq g iq s1 s3
      obtain rfl : k = 24 := by omega
      have na3 : ¬ pA3 ab lv fr to_ := fun ⟨j, h1, h2, h3⟩ => (s3 j h1 h2).1 h3
      have Hf := half1 s1 s3
      refine Ends.eq (b430_219 (n := n) (by (repeat' first | assumption | refine LX.setF _ _ ?_ (by decide +kernel) | refine LX.setS ?_ rfl | refine LX.setA ?_ (by first | assumption | omega))) (by first | assumption | omega)) ?_
      refine Ends.b3 (fun _ => Ends.b1 (fun z3 => ?_) (fun z3 => Ends.sm (K 0 q g iq (Or.inr ⟨na2, Or.inr ⟨na3, Or.inl ⟨decide_eq_true z3, rfl⟩⟩⟩) (fun _ => ⟨Hf, fun z => by rw [decide_eq_true z3] at z; cases z⟩)))) (fun z => absurd z (by decide))
      have g1 : Agr (pfW B) q (hset q (B + 56) 23 (0 : Int)) := Agr.rf.set (Or.inr ⟨rfl, rfl⟩)
      exact loop4 nd 0 _ _ _ (by omega) (LX.setF 56 23 lq (by decide +kernel)) (g.tr g1 (fun _ _ z => Or.inr z)) (hP _ _ iq g1) (Hf.agr (W' := fun c _ => c = B + 56) (Agr.rf.set rfl) (fun c k z => Or.inl (by omega))) na3 z3 (hv_set_at _ _ _ _) (fun j hj => absurd hj (Nat.not_lt_zero j))
    | succ r ih =>
      intro k q u4 u5 ek lq g iq s1 s3
      obtain ⟨a1, a2⟩ := s1 k (by omega)
      have next : ∀ (q' : AH) (u4 u5 : AV), LX B n q' → Agr (dpW W B) h q' → Inv q' → St1 B n q' ab be lv fr to_ 24 → St3 B q' ab lv fr to_ (k + 1) → Ends (ev PP (gsF gv) B d 430 345 [(2, rf (B + 56)), (0, (s : Int)), (0, most), (0, (k : Int)), u4, u5] [] q') Q := fun q' u4 u5 l' g' i' s1' s3' => by
        refine Ends.eq (b430_345 (n := n) (by (repeat' first | assumption | refine LX.setF _ _ ?_ (by decide +kernel) | refine LX.setS ?_ rfl | refine LX.setA ?_ (by first | assumption | omega))) (by first | assumption | omega)) ?_
        rw [w_succ (by omega)]
        exact ih (k + 1) q' _ _ (by omega) l' g' i' s1' s3'
      refine Ends.eq (b430_219 (n := n) (by (repeat' first | assumption | refine LX.setF _ _ ?_ (by decide +kernel) | refine LX.setS ?_ rfl | refine LX.setA ?_ (by first | assumption | omega))) (by first | assumption | omega)) ?_
      simp only [tn]
      rw [a1]
      refine Ends.b3 (fun z => absurd z (by omega)) (fun _ => Ends.g ⟨by omega, by omega⟩ ?_)
      cases el : lv k
      · refine Ends.b1 (fun z => absurd rfl z) (fun _ => next q _ _ lq g iq s1 (fun j hj z => ?_))
        rcases (by omega : j < k ∨ j = k) with u | u
        · exact s3 j u z
        · rw [u, el] at z; cases z
      obtain ⟨⟨c1, c2, c3, c4⟩, w1, w2⟩ := a2 el
      have b1 := whB_is w1
      have b2 := whB_is w2
      rw [c1, c2, c3, c4]
      have ea : bop32 100 (lU0 ab to_ k) (lU0 ab fr k) = lU0 ab to_ k - lU0 ab fr k := sub32 (by unfold lU0; omega) (by unfold lU0; omega)
      have eb : bop32 100 (lV0 ab to_ k) (lV0 ab fr k) = lV0 ab to_ k - lV0 ab fr k := sub32 (by unfold lV0; omega) (by unfold lV0; omega)
      rw [ea, eb]
      have ba : -64 ≤ lU0 ab to_ k - lU0 ab fr k ∧ lU0 ab to_ k - lU0 ab fr k ≤ 64 := by unfold lU0; omega
      have bb : -64 ≤ lV0 ab to_ k - lV0 ab fr k ∧ lV0 ab to_ k - lV0 ab fr k ≤ 64 := by unfold lV0; omega
      have bad : badD (lU0 ab to_ k - lU0 ab fr k) (lV0 ab to_ k - lV0 ab fr k) → Ends (ev PP (gsF gv) B d 430 302 [(2, rf (B + 56)), (0, (s : Int)), (0, most), (0, (k : Int)), (0, lU0 ab to_ k - lU0 ab fr k), (0, lV0 ab to_ k - lV0 ab fr k)] [] q) Q := fun z => by
        refine Ends.eq (b430_302 (n := n) (by (repeat' first | assumption | refine LX.setF _ _ ?_ (by decide +kernel) | refine LX.setS ?_ rfl | refine LX.setA ?_ (by first | assumption | omega))) (by first | assumption | omega)) ?_
        exact Ends.sm (K 3 q g iq (Or.inr ⟨na2, Or.inl ⟨⟨k, by omega, el, z⟩, rfl⟩⟩) (fun z => absurd z (by decide)))
      have good : ¬ badD (lU0 ab to_ k - lU0 ab fr k) (lV0 ab to_ k - lV0 ab fr k) → Ends (ev PP (gsF gv) B d 430 304 [(2, rf (B + 56)), (0, (s : Int)), (0, most), (0, (k : Int)), (0, lU0 ab to_ k - lU0 ab fr k), (0, lV0 ab to_ k - lV0 ab fr k)] [] q) Q := fun z => by
        refine Ends.eq (b430_304 (n := n) (by (repeat' first | assumption | refine LX.setF _ _ ?_ (by decide +kernel) | refine LX.setS ?_ rfl | refine LX.setA ?_ (by first | assumption | omega))) (by first | assumption | omega)) ?_
        rw [v436_is, v436_is, v886_is (by omega) (by omega), v886_is (by omega) (by omega), v891_is, an0, an0, an0, tn]
        rw [show sg3 (lU0 ab to_ k - lU0 ab fr k) = lDU ab fr to_ k from rfl, show sg3 (lV0 ab to_ k - lV0 ab fr k) = lDV ab fr to_ k from rfl, show max (if lU0 ab to_ k - lU0 ab fr k < 0 then -(lU0 ab to_ k - lU0 ab fr k) else lU0 ab to_ k - lU0 ab fr k) (if lV0 ab to_ k - lV0 ab fr k < 0 then -(lV0 ab to_ k - lV0 ab fr k) else lV0 ab to_ k - lV0 ab fr k) = lSZ ab fr to_ k from rfl]
        refine Ends.g ⟨by omega, by omega⟩ ?_
        have g4 : Agr (fun c _ => c = B + 73 ∨ c = B + 74 ∨ c = B + 75) q (hset (hset (hset q (B + 73) k (lDU ab fr to_ k)) (B + 74) k (lDV ab fr to_ k)) (B + 75) k (lSZ ab fr to_ k)) := ((Agr.rf.set (Or.inl rfl)).set (Or.inr (Or.inl rfl))).set (Or.inr (Or.inr rfl))
        have g4p : Agr (pfW B) q (hset (hset (hset q (B + 73) k (lDU ab fr to_ k)) (B + 74) k (lDV ab fr to_ k)) (B + 75) k (lSZ ab fr to_ k)) := g4.sub (fun c k z => Or.inl (by omega))
        refine next _ _ _ (((lq.setS rfl).setS rfl).setS rfl) (g.tr g4p (fun _ _ z => Or.inr z)) (hP _ _ iq g4p) (fun j hj => ?_) (fun j hj zl => ?_)
        · obtain ⟨s1a, s1b⟩ := s1 j hj
          have at_ : ∀ c i, c ≠ B + 73 → c ≠ B + 74 → c ≠ B + 75 → hv (hset (hset (hset q (B + 73) k (lDU ab fr to_ k)) (B + 74) k (lDV ab fr to_ k)) (B + 75) k (lSZ ab fr to_ k)) c i = hv q c i := fun c i h1 h2 h3 => g4.at _ _ (by omega)
          rw [at_ _ _ (by omega) (by omega) (by omega), at_ _ _ (by omega) (by omega) (by omega), at_ _ _ (by omega) (by omega) (by omega), at_ _ _ (by omega) (by omega) (by omega), at_ _ _ (by omega) (by omega) (by omega)]
          exact ⟨s1a, s1b⟩
        · rcases (by omega : j < k ∨ j = k) with u | u
          · obtain ⟨y1, y2, y3, y4⟩ := s3 j u zl
            refine ⟨y1, ?_, ?_, ?_⟩
            · rw [hv_set_ne (by omega), hv_set_ne (by omega), hv_set_ne (by omega)]; exact y2
            · rw [hv_set_ne (by omega), hv_set_ne (by omega), hv_set_ne (by omega)]; exact y3
            · rw [hv_set_ne (by omega), hv_set_ne (by omega), hv_set_ne (by omega)]; exact y4
          · rw [u]
            refine ⟨z, ?_, ?_, ?_⟩
            · rw [hv_set_ne (by omega), hv_set_ne (by omega), hv_set_at]
            · rw [hv_set_ne (by omega), hv_set_at]
            · rw [hv_set_at]
      have mid : ¬ (lU0 ab to_ k - lU0 ab fr k = 0 ∧ lV0 ab to_ k - lV0 ab fr k = 0) → Ends (ev PP (gsF gv) B d 430 277 [(2, rf (B + 56)), (0, (s : Int)), (0, most), (0, (k : Int)), (0, lU0 ab to_ k - lU0 ab fr k), (0, lV0 ab to_ k - lV0 ab fr k)] [] q) Q := fun z => by
        refine Ends.eq (b430_277 (n := n) (by (repeat' first | assumption | refine LX.setF _ _ ?_ (by decide +kernel) | refine LX.setS ?_ rfl | refine LX.setA ?_ (by first | assumption | omega))) (by first | assumption | omega)) ?_
        rw [show uop 0 (lV0 ab to_ k - lV0 ab fr k) = -(lV0 ab to_ k - lV0 ab fr k) from w32_id ⟨by omega, by omega⟩]
        refine Ends.b0 (fun y => good (fun x => by unfold badD at x; omega)) (fun y => Ends.b0 (fun y2 => good (fun x => by unfold badD at x; omega)) (fun y2 => Ends.b0 (fun y3 => good (fun x => by unfold badD at x; omega)) (fun y3 => Ends.b0 (fun y4 => good (fun x => by unfold badD at x; omega)) (fun y4 => bad (Or.inr ⟨y, y2, y3, y4⟩)))))
      refine Ends.b1 (fun _ => Ends.b1 (fun z => mid (fun y => z y.1)) (fun z => Ends.b0 (fun z2 => bad (Or.inl ⟨z, z2⟩)) (fun z2 => mid (fun y => z2 y.2)))) (fun z => absurd z (by decide))
  exact loop3 24 0 h u4 u5 rfl l Agr.rf i0 st (fun j hj => absurd hj (Nat.not_lt_zero j))
end P430
