/-! L3: profiles (model): points, steps, radii -/
section PMA
variable {gv : Nat → Int} {B n d w1 q s np nl nd nk : Nat} {h : AH} {ab be dw : Nat → Int} {lv dlv dgk : Nat → Bool} {fr to_ dc : Nat → Nat} {cs : Nat → Cst} {w xa xb xc dr : Nat → Int} {isC gk : Nat → Bool} {Inv : AH → Prop}
/-- lines, discs of the model's sketch -/
def LinM (h : AH) (w1 np nl : Nat) (lv : Nat → Bool) (fr to_ : Nat → Nat) : Prop := (hv h w1 3 = (nl : Int) ∧ nl ≤ 24 ∧ ∀ k, nl ≤ k → lv k = false) ∧ ∀ k, k < nl → hv h (w1 + 3) k = ((fr k : Nat) : Int) ∧ hv h (w1 + 4) k = ((to_ k : Nat) : Int) ∧ hv h (w1 + 5) k = b2i (lv k) ∧ (lv k = true → fr k < np ∧ to_ k < np)
def DcM (h : AH) (w1 np nd : Nat) (dlv : Nat → Bool) (dc : Nat → Nat) : Prop := (hv h w1 4 = (nd : Int) ∧ nd ≤ 6) ∧ ∀ k, k < nd → hv h (w1 + 6) k = ((dc k : Nat) : Int) ∧ (hv h (w1 + 7) k = 0 ↔ dlv k = false) ∧ (dlv k = true → dc k < np)
/-- radii of discs -/
def GvN (gv : Nat → Int) (B n w1 nd : Nat) (h0 : AH) (dlv dgk : Nat → Bool) (dw : Nat → Int) (Inv : AH → Prop) : Prop := ∀ (k d' : Nat) (q : AH), k < nd → dlv k = true → LX B n q → 982 ≤ d' → Inv q → Vt 0 (cll PP (ev PP (gsF gv) B) d' 655 [(2, rf (B + 149)), (2, hv h0 (w1 + 7) k)] q) (fun v q' => Agr (wvW B) q q' ∧ Inv q' ∧ v = if dgk k = true then dw k else 100000)
/-- what telling a profile writes -/
def pqW (B : Nat) : Nat → Nat → Prop := fun c k => (B + 168 ≤ c ∧ c ≤ B + 175) ∨ (c = B + 149 ∧ (k = 56 ∨ k = 57))
def pqV (B : Nat) : Nat → Nat → Prop := fun c k => wvW B c k ∨ pqW B c k
theorem cnt_end {S : Nat → Bool} {m N : Nat} (hm : m ≤ N) (h : ∀ k, m ≤ k → S k = false) : cntN S N = cntN S m := by
  have key : ∀ t, cntN S (m + t) = cntN S m := by
    intro t
    induction t with
    | zero => rfl
    | succ t ih =>
      rw [show m + (t + 1) = m + t + 1 from rfl, cntN_s, ih, h (m + t) (by omega)]
      rfl
  rw [← key (N - m)]
  congr 1
  omega
theorem wvq_lo {c k : Nat} (z : wvW B c k) : (c = B + 149 ∧ 23 ≤ k ∧ k ≤ 26) ∨ (B + 154 ≤ c ∧ c ≤ B + 159) := by
  unfold wvW mfW at z; omega
/-- lines told -/
def Tm1 (B n : Nat) (q : AH) (ab be : Nat → Int) (lv : Nat → Bool) (fr to_ : Nat → Nat) (k : Nat) : Prop := hv q (B + 149) 56 = ((cntN lv k : Nat) : Int) ∧ ∀ j, j < k → lv j = true → (hv q (B + 168) (cntN lv j) = lU0 ab fr j ∧ hv q (B + 169) (cntN lv j) = lV0 ab fr j ∧ hv q (B + 170) (cntN lv j) = lU0 ab to_ j ∧ hv q (B + 171) (cntN lv j) = lV0 ab to_ j ∧ hv q (B + 172) (cntN lv j) = (j : Int)) ∧ whB n ab be (fr j) = true ∧ whB n ab be (to_ j) = true
/-- discs told -/
def Tm2 (B n : Nat) (q : AH) (ab be : Nat → Int) (dlv : Nat → Bool) (dc : Nat → Nat) (k : Nat) : Prop := hv q (B + 149) 57 = ((cntN dlv k : Nat) : Int) ∧ ∀ j, j < k → dlv j = true → hv q (B + 173) (cntN dlv j) = ab (2 * dc j) ∧ hv q (B + 174) (cntN dlv j) = ab (2 * dc j + 1) ∧ whB n ab be (dc j) = true
theorem Tm1.agr {q : AH} {k : Nat} {W' : Nat → Nat → Prop} (T : Tm1 B n h ab be lv fr to_ k) (g : Agr W' h q) (hW : ∀ c k, W' c k → ¬ (B + 168 ≤ c ∧ c ≤ B + 172) ∧ ¬ (c = B + 149 ∧ k = 56)) : Tm1 B n q ab be lv fr to_ k := by
  have at_ : ∀ c k, B + 168 ≤ c → c ≤ B + 172 → hv q c k = hv h c k := fun c k h1 h2 => g.at _ _ (fun z => (hW _ _ z).1 ⟨h1, h2⟩)
  refine ⟨by rw [g.at _ _ (fun z => (hW _ _ z).2 ⟨rfl, rfl⟩)]; exact T.1, fun j hj z => ?_⟩
  rw [at_ _ _ (by omega) (by omega), at_ _ _ (by omega) (by omega), at_ _ _ (by omega) (by omega), at_ _ _ (by omega) (by omega), at_ _ _ (by omega) (by omega)]
  exact T.2 j hj z
theorem Tm2.agr {q : AH} {k : Nat} {W' : Nat → Nat → Prop} (T : Tm2 B n h ab be dlv dc k) (g : Agr W' h q) (hW : ∀ c k, W' c k → ¬ (B + 173 ≤ c ∧ c ≤ B + 174) ∧ ¬ (c = B + 149 ∧ k = 57)) : Tm2 B n q ab be dlv dc k := by
  have at_ : ∀ c k, B + 173 ≤ c → c ≤ B + 174 → hv q c k = hv h c k := fun c k h1 h2 => g.at _ _ (fun z => (hW _ _ z).1 ⟨h1, h2⟩)
  refine ⟨by rw [g.at _ _ (fun z => (hW _ _ z).2 ⟨rfl, rfl⟩)]; exact T.1, fun j hj z => ?_⟩
  rw [at_ _ _ (by omega) (by omega), at_ _ _ (by omega) (by omega)]
  exact T.2 j hj z
/-- what a good profile leaves -/
def PfM (B n : Nat) (q : AH) (ab : Nat → Int) (lv : Nat → Bool) (fr to_ : Nat → Nat) (nd : Nat) (dlv : Nat → Bool) (dc : Nat → Nat) (dw : Nat → Int) : Prop := (SgM B q lv (lU0 ab fr) (lV0 ab fr) (lU0 ab to_) (lV0 ab to_) ∧ ∀ k, k < 24 → lv k = true → SgK n (lU0 ab fr) (lV0 ab fr) (lU0 ab to_) (lV0 ab to_) (lDU ab fr to_) (lDV ab fr to_) (lSZ ab fr to_) k ∧ hv q (B + 172) (cntN lv k) = (k : Int)) ∧ hv q (B + 149) 57 = ((cntN dlv nd : Nat) : Int) ∧ ∀ k, k < nd → dlv k = true → hv q (B + 173) (cntN dlv k) = ab (2 * dc k) ∧ hv q (B + 174) (cntN dlv k) = ab (2 * dc k + 1) ∧ hv q (B + 175) (cntN dlv k) = dw k ∧ 1 ≤ dw k ∧ dw k ≤ (n : Int)
/-- the half of it that lines are -/
def HfM (B n : Nat) (q : AH) (ab : Nat → Int) (lv : Nat → Bool) (fr to_ : Nat → Nat) : Prop := SgM B q lv (lU0 ab fr) (lV0 ab fr) (lU0 ab to_) (lV0 ab to_) ∧ ∀ k, k < 24 → lv k = true → SgK n (lU0 ab fr) (lV0 ab fr) (lU0 ab to_) (lV0 ab to_) (lDU ab fr to_) (lDV ab fr to_) (lSZ ab fr to_) k
theorem seg_k {k : Nat} (w1 : whB n ab be (fr k) = true) (w2 : whB n ab be (to_ k) = true) (nb : ¬ badD (lU0 ab to_ k - lU0 ab fr k) (lV0 ab to_ k - lV0 ab fr k)) : SgK n (lU0 ab fr) (lV0 ab fr) (lU0 ab to_) (lV0 ab to_) (lDU ab fr to_) (lDV ab fr to_) (lSZ ab fr to_) k := by
  obtain ⟨⟨q1, q2⟩, q3, q4⟩ := seg_ok nb
  have b1 := whB_is w1
  have b2 := whB_is w2
  refine ⟨⟨q1, q2⟩, ⟨?_, ?_⟩, b1.1, b1.2, b2.1, b2.2, ?_⟩
  · show lU0 ab to_ k = lU0 ab fr k + sz8 (lU0 ab to_ k - lU0 ab fr k) (lV0 ab to_ k - lV0 ab fr k) * sg3 (lU0 ab to_ k - lU0 ab fr k)
    rw [← q3]; omega
  · show lV0 ab to_ k = lV0 ab fr k + sz8 (lU0 ab to_ k - lU0 ab fr k) (lV0 ab to_ k - lV0 ab fr k) * sg3 (lV0 ab to_ k - lV0 ab fr k)
    rw [← q4]; omega
  · show max (if ab (2 * to_ k) - ab (2 * fr k) < 0 then -(ab (2 * to_ k) - ab (2 * fr k)) else ab (2 * to_ k) - ab (2 * fr k)) (if ab (2 * to_ k + 1) - ab (2 * fr k + 1) < 0 then -(ab (2 * to_ k + 1) - ab (2 * fr k + 1)) else ab (2 * to_ k + 1) - ab (2 * fr k + 1)) ≤ (n : Int)
    clear q1 q2 q3 q4 nb
    omega
theorem mul_2p {p : Nat} (hp : p < 12) : bop32 104 2 (p : Int) = ((2 * p : Nat) : Int) := mulNN (x := 2) (by omega)
theorem add_1p {m : Nat} (hp : m < 1000) : bop32 96 (m : Int) 1 = ((m + 1 : Nat) : Int) := addNN (y := 1) (by omega)
theorem u3_ok {x : Int} (n64 : n ≤ 64) (hx : 0 ≤ x ∧ x ≤ (n : Int)) : uop 3 x = x := by
  rw [uop3]; exact w32_id ⟨by omega, by omega⟩
set_option maxHeartbeats 4000000 in
/-- behind solving: lines and discs are told -/
theorem c_profMA {Q : Rs → Prop} (l : LX B n h) (n64 : n ≤ 64) (hd : 996 ≤ d) (S : YS B w1 h) (i0 : Inv h) (hP : ∀ q q', Inv q → Agr (pqW B) q q' → Inv q') (L : LinM h w1 np nl lv fr to_) (D : DcM h w1 np nd dlv dc) (h12 : np ≤ 12) (HR : GvN gv B n w1 nd h dlv dgk dw Inv) (ha : ∀ j, j < 2 * np → hv h (B + 166) j = ab j ∧ hv h (B + 167) j = be j) (z56 : hv h (B + 149) 56 = 0) (z57 : hv h (B + 149) 57 = 0)
    (K : ∀ x h', Agr (pqV B) h h' → Inv h' → PrR n false ab be lv fr to_ nd dlv dc dgk dw x → (x = 0 ∨ 4 ≤ x → HfM B n h' ab lv fr to_) → (x = 0 → PfM B n h' ab lv fr to_ nd dlv dc dw) → Q ((0, (0, x)), h')) (u3 u4 : AV) : Ends (ev PP (gsF gv) B d 785 23 [(2, rf (B + 149)), (2, rf w1), (0, 0), u3, u4] [] h) Q := by
  have lo := S.lo
  have n6 := D.1.2
  have n24 := L.1.2.1
  have c24 : ∀ k, k ≤ 24 → cntN lv k ≤ 24 := fun k hk => Nat.le_trans (cntN_le _ _) hk
  have pq_pv : ∀ c k, pqW B c k → pqV B c k := fun _ _ z => Or.inr z
  have far : ∀ {q : AH}, Agr (pqV B) h q → ∀ j k, hv q (w1 + j) k = hv h (w1 + j) k := fun {q} g j k => g.at _ _ (fun z => by
    rcases z with z | z
    · have := wvq_lo z; omega
    · unfold pqW at z; omega)
  have YSq : ∀ {q : AH}, Agr (pqV B) h q → YS B w1 q := fun {q} g => S.agr g (fun k _ z => by
    rcases z with z | z
    · have := wvq_lo z; omega
    · unfold pqW at z; omega)
  have ha_ : ∀ {q : AH}, Agr (pqW B) h q → ∀ p, p < np → ∀ j, j < 2 → hv q (B + 166) (2 * p + j) = ab (2 * p + j) ∧ hv q (B + 167) (2 * p + j) = be (2 * p + j) := fun {q} g p hp j hj => by
    rw [g.at _ _ (fun z => by unfold pqW at z; omega), g.at _ _ (fun z => by unfold pqW at z; omega)]
    exact ha _ (by omega)
  have nlc : cntN lv 24 = cntN lv nl := cnt_end n24 L.1.2.2
  have lvn : ∀ k, lv k = true → k < nl := fun k z => by
    rcases (by omega : k < nl ∨ nl ≤ k) with y | y
    · exact y
    · rw [L.1.2.2 k y] at z; cases z
  have sgm : ∀ {q : AH}, Tm1 B n q ab be lv fr to_ nl → SgM B q lv (lU0 ab fr) (lV0 ab fr) (lU0 ab to_) (lV0 ab to_) := fun {q} T => ⟨by rw [nlc]; exact T.1, fun k hk z => by
    obtain ⟨⟨a1, a2, a3, a4, -⟩, -⟩ := T.2 k (lvn k z) z
    exact ⟨a1, a2, a3, a4⟩⟩
  have pfin : ∀ (q : AH) (x : Int), Agr (pqV B) h q → Inv q → 0 < x ∧ x < 4 → PrR n false ab be lv fr to_ nd dlv dc dgk dw x → Q ((0, (0, x)), q) := fun q x g i x0 p => K x q g i p (fun z => by omega) (fun z => by omega)
  -- radii
  have loop4 : ∀ (r k : Nat) (q : AH) (u4 : AV), k + r = nd → LX B n q → Agr (pqV B) h q → Inv q → Tm1 B n q ab be lv fr to_ nl → Tm2 B n q ab be dlv dc nd → ¬ pA2 n ab be lv fr to_ nd dlv dc → ¬ pA3 ab lv fr to_ → (∀ j, j < k → dlv j = true → (dgk j = true ∧ 1 ≤ dw j ∧ dw j ≤ (n : Int)) ∧ hv q (B + 175) (cntN dlv j) = dw j) → Ends (ev PP (gsF gv) B d 785 376 [(2, rf (B + 149)), (2, rf w1), (0, ((cntN dlv k : Nat) : Int)), (0, (k : Int)), u4] [] q) Q := by
    intro r
    induction r with
    | zero =>
      intro k q u4 ek lq g iq T1 T2 na2 na3 ok
      obtain rfl : k = nd := by omega
      have Sq := YSq g
      refine Ends.eq (b785_376 (n := n) (by (repeat' first | assumption | refine LX.setF _ _ ?_ (by decide +kernel) | refine LX.setS ?_ rfl | refine LX.setA ?_ (by first | assumption | omega))) (by first | assumption | omega) (by first | assumption | omega)) ?_
      rw [show hv q w1 4 = (k : Int) from (far g 0 4).trans D.1.1]
      have G : ∀ k, k < 24 → lv k = true → SgK n (lU0 ab fr) (lV0 ab fr) (lU0 ab to_) (lV0 ab to_) (lDU ab fr to_) (lDV ab fr to_) (lSZ ab fr to_) k := fun k hk z => by
        obtain ⟨-, b1, b2⟩ := T1.2 k (lvn k z) z
        exact seg_k b1 b2 (fun y => na3 ⟨k, hk, z, y⟩)
      have na4 : ¬ pA4 n k dlv dgk dw := fun ⟨k, h1, h2, h3⟩ => h3 (ok k h1 h2).1
      refine Ends.b3 (fun _ => ?_) (fun z => absurd z (Int.lt_irrefl _))
      refine c_profMB lq n64 (by omega) (sgm T1) G (fun x hx => ?_) _ _
      refine K x q g iq (Or.inr ⟨na2, Or.inr ⟨na3, Or.inr ⟨rfl, Or.inr ⟨na4, hx⟩⟩⟩⟩) (fun _ => ⟨sgm T1, G⟩) (fun _ => ⟨⟨sgm T1, fun k hk z => ⟨G k hk z, ?_⟩⟩, T2.1, fun k hk z => ?_⟩)
      · exact (T1.2 k (lvn k z) z).1.2.2.2.2
      · obtain ⟨a1, a2, -⟩ := T2.2 k hk z
        obtain ⟨⟨-, b1, b2⟩, b3⟩ := ok k hk z
        exact ⟨a1, a2, b3, b1, b2⟩
    | succ r ih =>
      intro k q u4 ek lq g iq T1 T2 na2 na3 ok
      have Sq := YSq g
      obtain ⟨e1, e2, e3⟩ := D.2 k (by omega)
      have ck : cntN dlv k ≤ 6 := Nat.le_trans (cntN_le _ _) (by omega)
      refine Ends.eq (b785_376 (n := n) (by (repeat' first | assumption | refine LX.setF _ _ ?_ (by decide +kernel) | refine LX.setS ?_ rfl | refine LX.setA ?_ (by first | assumption | omega))) (by first | assumption | omega) (by first | assumption | omega)) ?_
      rw [show hv q w1 4 = (nd : Int) from (far g 0 4).trans D.1.1, tn, far g 7 k]
      refine Ends.b3 (fun z => absurd z (by omega)) (fun _ => Ends.g ⟨by omega, by omega⟩ ?_)
      cases ed : dlv k
      · refine Ends.b0 (fun _ => ?_) (fun z => absurd (e2.mpr ed) z)
        refine Ends.eq (b785_436 (n := n) (by (repeat' first | assumption | refine LX.setF _ _ ?_ (by decide +kernel) | refine LX.setS ?_ rfl | refine LX.setA ?_ (by first | assumption | omega))) (by first | assumption | omega)) ?_
        rw [w_succ (by omega), show cntN dlv k = cntN dlv (k + 1) from by rw [cntN_s, ed]; rfl]
        refine ih (k + 1) q _ (by omega) lq g iq T1 T2 na2 na3 (fun j hj z => ?_)
        rcases (by omega : j < k ∨ j = k) with u | u
        · exact ok j u z
        · rw [u, ed] at z; cases z
      · refine Ends.b0 (fun z => absurd (e2.mp z) (by rw [ed]; exact fun y => by cases y)) (fun _ => ?_)
        refine Ends.ct lq (by decide +kernel) (by decide) (HR k _ q (by omega) ed lq (by omega) iq) (fun y q2 l2 _ _ _ ⟨g2, i2, ey⟩ => ?_)
        have g2' : Agr (pqV B) h q2 := g.tr g2 (fun _ _ z => Or.inl z)
        have T1' : Tm1 B n q2 ab be lv fr to_ nl := T1.agr g2 (fun c k z => by have := wvq_lo z; omega)
        have T2' : Tm2 B n q2 ab be dlv dc nd := T2.agr g2 (fun c k z => by have := wvq_lo z; omega)
        have Sq2 := YSq g2'
        have bad : ¬ (dgk k = true ∧ 1 ≤ dw k ∧ dw k ≤ (n : Int)) → Ends (ev PP (gsF gv) B d 785 423 [(2, rf (B + 149)), (2, rf w1), (0, ((cntN dlv k : Nat) : Int)), (0, (k : Int)), (0, y)] [] q2) Q := fun z => by
          refine Ends.eq (b785_423 (n := n) (by (repeat' first | assumption | refine LX.setF _ _ ?_ (by decide +kernel) | refine LX.setS ?_ rfl | refine LX.setA ?_ (by first | assumption | omega))) (by first | assumption | omega)) ?_
          exact Ends.sm (K _ _ g2' i2 (Or.inr ⟨na2, Or.inr ⟨na3, Or.inr ⟨rfl, Or.inl ⟨⟨k, by omega, ed, z⟩, rfl⟩⟩⟩⟩) (fun _ => ⟨sgm T1', fun k hk z => by
            obtain ⟨-, b1, b2⟩ := T1'.2 k (lvn k z) z
            exact seg_k b1 b2 (fun y => na3 ⟨k, hk, z, y⟩)⟩) (fun z => absurd z (by decide)))
        have big : dgk k = true ∨ y = 100000 := by
          by_cases z : dgk k = true
          · exact Or.inl z
          · rw [if_neg z] at ey; exact Or.inr ey
        refine Ends.eq (b785_406 (n := n) (by (repeat' first | assumption | refine LX.setF _ _ ?_ (by decide +kernel) | refine LX.setS ?_ rfl | refine LX.setA ?_ (by first | assumption | omega))) (by first | assumption | omega)) ?_
        refine Ends.b2 (fun z => bad (fun y1 => by rw [if_pos y1.1] at ey; omega)) (fun z1 => Ends.b5 (fun z2 => ?_) (fun z => bad (fun y1 => by rw [if_pos y1.1] at ey; omega)))
        have dk : dgk k = true := by
          rcases big with z | z
          · exact z
          · omega
        rw [if_pos dk] at ey
        have lt : cntN dlv k < 6 := by
          have := cnt_ltl (S := dlv) (show k < k + 1 by omega) ed
          have := cntN_le dlv (k + 1)
          omega
        refine Ends.g ⟨by omega, by omega⟩ ?_
        rw [tn, an0, w_succ (by omega)]
        have g3 : Agr (pqW B) q2 (hset q2 (B + 175) (cntN dlv k) y) := Agr.rf.set (Or.inl ⟨by omega, by omega⟩)
        have l3 : LX B n (hset q2 (B + 175) (cntN dlv k) y) := l2.setS rfl
        have g3' := g2'.tr g3 pq_pv
        have Sq3 := YSq g3'
        have i3 := hP _ _ i2 g3
        have T1'' : Tm1 B n (hset q2 (B + 175) (cntN dlv k) y) ab be lv fr to_ nl := T1'.agr (W' := fun c _ => c = B + 175) (Agr.rf.set rfl) (fun c k z => by omega)
        have T2'' : Tm2 B n (hset q2 (B + 175) (cntN dlv k) y) ab be dlv dc nd := T2'.agr (W' := fun c _ => c = B + 175) (Agr.rf.set rfl) (fun c k z => by omega)
        refine Ends.eq (b785_436 (n := n) (by (repeat' first | assumption | refine LX.setF _ _ ?_ (by decide +kernel) | refine LX.setS ?_ rfl | refine LX.setA ?_ (by first | assumption | omega))) (by first | assumption | omega)) ?_
        rw [w_succ (by omega), show cntN dlv k + 1 = cntN dlv (k + 1) from by rw [cntN_s, ed]; rfl]
        refine ih (k + 1) _ _ (by omega) l3 g3' i3 T1'' T2'' na2 na3 (fun j hj z => ?_)
        rcases (by omega : j < k ∨ j = k) with u | u
        · have := cnt_ltl u z
          rw [hv_set_ne (by omega), g2.at _ _ (fun z => by have := wvq_lo z; omega)]
          exact ok j u z
        · rw [u, hv_set_at]
          exact ⟨⟨dk, by omega, by omega⟩, ey⟩
  -- steps
  have loop3 : ∀ (q : AH), LX B n q → Agr (pqW B) h q → Inv q → Tm1 B n q ab be lv fr to_ nl → Tm2 B n q ab be dlv dc nd → ¬ pA2 n ab be lv fr to_ nd dlv dc → ∀ (r i : Nat) (u3 u4 : AV), i + r = cntN lv 24 → (∀ j, j < 24 → lv j = true → cntN lv j < i → ¬ badD (lU0 ab to_ j - lU0 ab fr j) (lV0 ab to_ j - lV0 ab fr j)) → Ends (ev PP (gsF gv) B d 785 296 [(2, rf (B + 149)), (2, rf w1), (0, (i : Int)), u3, u4] [] q) Q := by
    intro q lq g iq T1 T2 na2 r
    have Sm := sgm T1
    have c24' : cntN lv 24 ≤ 24 := cntN_le _ _
    have g' : Agr (pqV B) h q := g.sub pq_pv
    induction r with
    | zero =>
      intro i u3 u4 ei ok
      obtain rfl : i = cntN lv 24 := by omega
      refine Ends.eq (b785_296 (n := n) (by (repeat' first | assumption | refine LX.setF _ _ ?_ (by decide +kernel) | refine LX.setS ?_ rfl | refine LX.setA ?_ (by first | assumption | omega))) (by first | assumption | omega)) ?_
      rw [Sm.1]
      refine Ends.b3 (fun _ => ?_) (fun z => absurd z (Int.lt_irrefl _))
      exact loop4 nd 0 q _ (by omega) lq g' iq T1 T2 na2 (fun ⟨k, h1, h2, h3⟩ => ok k h1 h2 (cnt_ltl h1 h2) h3) (fun j hj => absurd hj (Nat.not_lt_zero j))
    | succ r ih =>
      intro i u3 u4 ei ok
      obtain ⟨k, hk, lk, ck⟩ := cnt_at (S := lv) 24 i (by omega)
      obtain ⟨a1, a2, a3, a4⟩ := Sm.2 k hk lk
      rw [ck] at a1 a2 a3 a4
      obtain ⟨-, w1', w2'⟩ := T1.2 k (lvn k lk) lk
      have b1 := whB_is w1'
      have b2 := whB_is w2'
      have U0b : 0 ≤ lU0 ab fr k ∧ lU0 ab fr k ≤ 64 := ⟨b1.1.1, by have := b1.1.2; unfold lU0; omega⟩
      have V0b : 0 ≤ lV0 ab fr k ∧ lV0 ab fr k ≤ 64 := ⟨b1.2.1, by have := b1.2.2; unfold lV0; omega⟩
      have U1b : 0 ≤ lU0 ab to_ k ∧ lU0 ab to_ k ≤ 64 := ⟨b2.1.1, by have := b2.1.2; unfold lU0; omega⟩
      have V1b : 0 ≤ lV0 ab to_ k ∧ lV0 ab to_ k ≤ 64 := ⟨b2.2.1, by have := b2.2.2; unfold lV0; omega⟩
      obtain ⟨x, ex⟩ : ∃ x, x = lU0 ab to_ k - lU0 ab fr k := ⟨_, rfl⟩
      obtain ⟨y, ey⟩ : ∃ y, y = lV0 ab to_ k - lV0 ab fr k := ⟨_, rfl⟩
      have xb : -64 ≤ x ∧ x ≤ 64 := by omega
      have yb : -64 ≤ y ∧ y ≤ 64 := by omega
      have good : ¬ badD x y → Ends (ev PP (gsF gv) B d 785 366 [(2, rf (B + 149)), (2, rf w1), (0, (i : Int)), (0, x), (0, y)] [] q) Q := fun z => by
        refine Ends.eq (b785_366 (n := n) (by (repeat' first | assumption | refine LX.setF _ _ ?_ (by decide +kernel) | refine LX.setS ?_ rfl | refine LX.setA ?_ (by first | assumption | omega))) (by first | assumption | omega)) ?_
        rw [w_succ (by omega)]
        refine ih (i + 1) _ _ (by omega) (fun j hj lj cj => ?_)
        rcases (by omega : cntN lv j < i ∨ cntN lv j = i) with u | u
        · exact ok j hj lj u
        · have ej : j = k := by
            rcases (by omega : j < k ∨ j = k ∨ k < j) with v | v | v
            · have := cnt_ltl v lj; omega
            · exact v
            · have := cnt_ltl v lk; omega
          rw [ej, ← ex, ← ey]
          exact z
      have bad : badD x y → Ends (ev PP (gsF gv) B d 785 364 [(2, rf (B + 149)), (2, rf w1), (0, (i : Int)), (0, x), (0, y)] [] q) Q := fun z => by
        refine Ends.eq (b785_364 (n := n) (by (repeat' first | assumption | refine LX.setF _ _ ?_ (by decide +kernel) | refine LX.setS ?_ rfl | refine LX.setA ?_ (by first | assumption | omega))) (by first | assumption | omega)) ?_
        exact Ends.sm (pfin _ _ g' iq (by decide) (Or.inr ⟨na2, Or.inl ⟨⟨k, hk, lk, by rw [← ex, ← ey]; exact z⟩, rfl⟩⟩))
      have rest : ¬ (x = 0 ∧ y = 0) → Ends (ev PP (gsF gv) B d 785 342 [(2, rf (B + 149)), (2, rf w1), (0, (i : Int)), (0, x), (0, y)] [] q) Q := fun z => by
        refine Ends.eq (b785_342 (n := n) (by (repeat' first | assumption | refine LX.setF _ _ ?_ (by decide +kernel) | refine LX.setS ?_ rfl | refine LX.setA ?_ (by first | assumption | omega))) (by first | assumption | omega)) ?_
        rw [show uop 0 y = -y from neg32 (by omega) (by omega)]
        unfold badD at good bad
        refine Ends.b0 (fun z1 => good (fun u => by omega)) (fun z1 => Ends.b0 (fun z2 => good (fun u => by omega)) (fun z2 => Ends.b0 (fun z3 => good (fun u => by omega)) (fun z3 => Ends.b0 (fun z4 => good (fun u => by omega)) (fun z4 => bad (by omega)))))
      refine Ends.eq (b785_296 (n := n) (by (repeat' first | assumption | refine LX.setF _ _ ?_ (by decide +kernel) | refine LX.setS ?_ rfl | refine LX.setA ?_ (by first | assumption | omega))) (by first | assumption | omega)) ?_
      rw [Sm.1, tn, a1, a2, a3, a4, show bop32 100 (lU0 ab to_ k) (lU0 ab fr k) = x from by rw [ex]; exact w32_id ⟨by omega, by omega⟩, show bop32 100 (lV0 ab to_ k) (lV0 ab fr k) = y from by rw [ey]; exact w32_id ⟨by omega, by omega⟩]
      refine Ends.b3 (fun z => absurd z (by omega)) (fun _ => Ends.g ⟨by omega, by omega⟩ (Ends.b1 (fun z => rest (fun u => z u.1)) (fun z1 => Ends.b0 (fun z2 => bad (Or.inl ⟨z1, z2⟩)) (fun z2 => rest (fun u => z2 u.2)))))
  -- discs
  have loop2 : ∀ (r k : Nat) (q : AH) (u3 u4 : AV), k + r = nd → LX B n q → Agr (pqW B) h q → Inv q → Tm1 B n q ab be lv fr to_ nl → Tm2 B n q ab be dlv dc k → Ends (ev PP (gsF gv) B d 785 195 [(2, rf (B + 149)), (2, rf w1), (0, (k : Int)), u3, u4] [] q) Q := by
    intro r
    induction r with
    | zero =>
      intro k q u3 u4 ek lq g iq T1 T2
      obtain rfl : k = nd := by omega
      have g' : Agr (pqV B) h q := g.sub pq_pv
      have Sq := YSq g'
      refine Ends.eq (b785_195 (n := n) (by (repeat' first | assumption | refine LX.setF _ _ ?_ (by decide +kernel) | refine LX.setS ?_ rfl | refine LX.setA ?_ (by first | assumption | omega))) (by first | assumption | omega) (by first | assumption | omega)) ?_
      rw [show hv q w1 4 = (k : Int) from (far g' 0 4).trans D.1.1]
      refine Ends.b3 (fun _ => loop3 q lq g iq T1 T2 (fun z => ?_) (cntN lv 24) 0 _ _ (by omega) (fun j _ _ cj => absurd cj (Nat.not_lt_zero _))) (fun z => absurd z (Int.lt_irrefl _))
      rcases z with ⟨j, hj, z1, z2⟩ | ⟨j, hj, z1, z2⟩
      · obtain ⟨-, b1, b2⟩ := T1.2 j (lvn j z1) z1
        rw [b1, b2] at z2; cases z2
      · rw [(T2.2 j hj z1).2.2] at z2; cases z2
    | succ r ih =>
      intro k q u3 u4 ek lq g iq T1 T2
      have g' : Agr (pqV B) h q := g.sub pq_pv
      have Sq := YSq g'
      obtain ⟨e1, e2, e3⟩ := D.2 k (by omega)
      refine Ends.eq (b785_195 (n := n) (by (repeat' first | assumption | refine LX.setF _ _ ?_ (by decide +kernel) | refine LX.setS ?_ rfl | refine LX.setA ?_ (by first | assumption | omega))) (by first | assumption | omega) (by first | assumption | omega)) ?_
      rw [show hv q w1 4 = (nd : Int) from (far g' 0 4).trans D.1.1, tn, far g' 7 k, far g' 6 k, e1]
      refine Ends.b3 (fun z => absurd z (by omega)) (fun _ => Ends.g ⟨by omega, by omega⟩ ?_)
      cases ed : dlv k
      · refine Ends.b0 (fun _ => ?_) (fun z => absurd (e2.mpr ed) z)
        refine Ends.eq (b785_288 (n := n) (by (repeat' first | assumption | refine LX.setF _ _ ?_ (by decide +kernel) | refine LX.setS ?_ rfl | refine LX.setA ?_ (by first | assumption | omega))) (by first | assumption | omega)) ?_
        rw [w_succ (by omega)]
        refine ih (k + 1) q _ _ (by omega) lq g iq T1 ⟨by rw [cntN_s, ed]; exact T2.1, fun j hj z => ?_⟩
        rcases (by omega : j < k ∨ j = k) with u | u
        · exact T2.2 j u z
        · rw [u, ed] at z; cases z
      · have dl := e3 ed
        have lt : cntN dlv k < 6 := by
          have := cnt_ltl (S := dlv) (show k < k + 1 by omega) ed
          have := cntN_le dlv (k + 1)
          omega
        refine Ends.b0 (fun z => absurd (e2.mp z) (by rw [ed]; exact fun y => by cases y)) (fun _ => ?_)
        refine Ends.ct lq (by decide +kernel) (by decide) (c_isWhole722 (ab := ab) (be := be) lq (by omega) (by omega) (ha_ g _ dl)) (fun y q2 l2 _ _ _ ⟨eq2_, ey⟩ => ?_)
        subst eq2_
        refine Ends.eq (b785_225 (n := n) (by (repeat' first | assumption | refine LX.setF _ _ ?_ (by decide +kernel) | refine LX.setS ?_ rfl | refine LX.setA ?_ (by first | assumption | omega))) (by first | assumption | omega) (by first | assumption | omega)) ?_
        simp (disch := omega) only [hv_set_ne]
        rw [ey]
        cases ew : whB n ab be (dc k)
        · refine Ends.b1 (fun z => absurd rfl z) (fun _ => Ends.sm (pfin _ _ g' iq (by decide) (Or.inl ⟨Or.inr ⟨k, by omega, ed, ew⟩, rfl⟩)))
        have w1' := whB_is ew
        have p1 : hv q2 (B + 166) (2 * dc k) = ab (2 * dc k) := (ha_ g _ dl 0 (by omega)).1
        obtain ⟨p2, -⟩ := ha_ g _ dl 1 (by omega)
        simp only [tn, far g' 6 k, e1, mul_2p (show dc k < 12 by omega), add_1p (show 2 * dc k < 1000 by omega), p1, p2, T2.1, an0, u3_ok n64 w1'.1, u3_ok n64 w1'.2, add_1p (show cntN dlv k < 1000 by omega)]
        obtain ⟨q3, eq3⟩ : ∃ q3, q3 = hset (hset (hset q2 (B + 173) (cntN dlv k) (ab (2 * dc k))) (B + 174) (cntN dlv k) (ab (2 * dc k + 1))) (B + 149) 57 ((cntN dlv k + 1 : Nat) : Int) := ⟨_, rfl⟩
        have g3 : Agr (fun c k => c = B + 173 ∨ c = B + 174 ∨ (c = B + 149 ∧ k = 57)) q2 q3 := by
          rw [eq3]
          exact ((Agr.rf.set (Or.inl rfl)).set (Or.inr (Or.inl rfl))).set (Or.inr (Or.inr ⟨rfl, rfl⟩))
        have l3 : LX B n q3 := by rw [eq3]; exact (by (repeat' first | assumption | refine LX.setF _ _ ?_ (by decide +kernel) | refine LX.setS ?_ rfl | refine LX.setA ?_ (by assumption)))
        have g3m : Agr (pqW B) q2 q3 := g3.sub (fun c k z => by unfold pqW; omega)
        have i3 := hP _ _ iq g3m
        have T1' : Tm1 B n q3 ab be lv fr to_ nl := T1.agr g3 (fun c k z => by omega)
        have f1 : hv q3 (B + 149) 57 = ((cntN dlv k + 1 : Nat) : Int) := by rw [eq3]; exact hv_set_at _ _ _ _
        have f2 : hv q3 (B + 173) (cntN dlv k) = ab (2 * dc k) := by rw [eq3, hv_set_ne (by omega), hv_set_ne (by omega)]; exact hv_set_at _ _ _ _
        have f3 : hv q3 (B + 174) (cntN dlv k) = ab (2 * dc k + 1) := by rw [eq3, hv_set_ne (by omega)]; exact hv_set_at _ _ _ _
        have f4 : ∀ i, i ≠ cntN dlv k → hv q3 (B + 173) i = hv q2 (B + 173) i ∧ hv q3 (B + 174) i = hv q2 (B + 174) i := fun i hi => by
          rw [eq3, hv_set_ne (by omega), hv_set_ne (by omega), hv_set_ne (by omega), hv_set_ne (by omega), hv_set_ne (by omega), hv_set_ne (by omega)]
          exact ⟨rfl, rfl⟩
        rw [← eq3]
        refine Ends.b1 (fun _ => Ends.g ⟨by omega, by omega⟩ (Ends.g ⟨by omega, by omega⟩ (Ends.g ⟨by omega, by omega⟩ (Ends.g ⟨by omega, by omega⟩ ?_)))) (fun z => absurd z (by decide))
        refine Ends.eq (b785_288 (n := n) (by (repeat' first | assumption | refine LX.setF _ _ ?_ (by decide +kernel) | refine LX.setS ?_ rfl | refine LX.setA ?_ (by first | assumption | omega))) (by first | assumption | omega)) ?_
        rw [w_succ (by omega)]
        refine ih (k + 1) q3 _ _ (by omega) l3 (g.tr g3m (fun _ _ z => z)) i3 T1' ⟨by rw [f1, cntN_s, ed]; rfl, fun j hj z => ?_⟩
        rcases (by omega : j < k ∨ j = k) with u | u
        · have := cnt_ltl u z
          rw [(f4 _ (by omega)).1, (f4 _ (by omega)).2]
          exact T2.2 j u z
        · rw [u, f2, f3]
          exact ⟨rfl, rfl, ew⟩
  -- lines
  have loop1 : ∀ (r k : Nat) (q : AH) (u3 u4 : AV), k + r = nl → LX B n q → Agr (pqW B) h q → Inv q → Tm1 B n q ab be lv fr to_ k → hv q (B + 149) 57 = 0 → Ends (ev PP (gsF gv) B d 785 23 [(2, rf (B + 149)), (2, rf w1), (0, (k : Int)), u3, u4] [] q) Q := by
    intro r
    induction r with
    | zero =>
      intro k q u3 u4 ek lq g iq T1 e57
      obtain rfl : k = nl := by omega
      have g' : Agr (pqV B) h q := g.sub pq_pv
      have Sq := YSq g'
      refine Ends.eq (b785_23 (n := n) (by (repeat' first | assumption | refine LX.setF _ _ ?_ (by decide +kernel) | refine LX.setS ?_ rfl | refine LX.setA ?_ (by first | assumption | omega))) (by first | assumption | omega) (by first | assumption | omega)) ?_
      rw [show hv q w1 3 = (k : Int) from (far g' 0 3).trans L.1.1]
      exact Ends.b3 (fun _ => loop2 nd 0 q _ _ (by omega) lq g iq T1 ⟨e57, fun j hj => absurd hj (Nat.not_lt_zero j)⟩) (fun z => absurd z (Int.lt_irrefl _))
    | succ r ih =>
      intro k q u3 u4 ek lq g iq T1 e57
      have g' : Agr (pqV B) h q := g.sub pq_pv
      have Sq := YSq g'
      obtain ⟨e1, e2, e3, e4⟩ := L.2 k (by omega)
      refine Ends.eq (b785_23 (n := n) (by (repeat' first | assumption | refine LX.setF _ _ ?_ (by decide +kernel) | refine LX.setS ?_ rfl | refine LX.setA ?_ (by first | assumption | omega))) (by first | assumption | omega) (by first | assumption | omega)) ?_
      rw [show hv q w1 3 = (nl : Int) from (far g' 0 3).trans L.1.1, tn, far g' 5 k, far g' 3 k, e1, e3]
      refine Ends.b3 (fun z => absurd z (by omega)) (fun _ => Ends.g ⟨by omega, by omega⟩ ?_)
      cases ed : lv k
      · refine Ends.b1 (fun z => absurd rfl z) (fun _ => ?_)
        refine Ends.eq (b785_187 (n := n) (by (repeat' first | assumption | refine LX.setF _ _ ?_ (by decide +kernel) | refine LX.setS ?_ rfl | refine LX.setA ?_ (by first | assumption | omega))) (by first | assumption | omega)) ?_
        rw [w_succ (by omega)]
        refine ih (k + 1) q _ _ (by omega) lq g iq ⟨by rw [cntN_s, ed]; exact T1.1, fun j hj z => ?_⟩ e57
        rcases (by omega : j < k ∨ j = k) with u | u
        · exact T1.2 j u z
        · rw [u, ed] at z; cases z
      · obtain ⟨fp, tp⟩ := e4 ed
        have lt : cntN lv k < 24 := by
          have := cnt_ltl (S := lv) (show k < k + 1 by omega) ed
          have := cntN_le lv (k + 1)
          omega
        refine Ends.b1 (fun _ => ?_) (fun z => absurd z (by decide))
        have bad : whB n ab be (fr k) = false ∨ whB n ab be (to_ k) = false → Ends (ev PP (gsF gv) B d 785 69 [(2, rf (B + 149)), (2, rf w1), (0, (k : Int)), u3, u4] [] q) Q := fun z => by
          refine Ends.eq (b785_69 (n := n) (by (repeat' first | assumption | refine LX.setF _ _ ?_ (by decide +kernel) | refine LX.setS ?_ rfl | refine LX.setA ?_ (by first | assumption | omega))) (by first | assumption | omega)) ?_
          refine Ends.sm (pfin _ _ g' iq (by decide) (Or.inl ⟨Or.inl ⟨k, by omega, ed, ?_⟩, rfl⟩))
          rcases z with z | z <;> rw [z]
          · rfl
          · exact Bool.and_false _
        refine Ends.ct lq (by decide +kernel) (by decide) (c_isWhole722 (ab := ab) (be := be) lq (by omega) (by omega) (ha_ g _ fp)) (fun y q2 l2 _ _ _ ⟨eq2_, ey⟩ => ?_)
        subst eq2_
        refine Ends.eq (b785_53 (n := n) (by (repeat' first | assumption | refine LX.setF _ _ ?_ (by decide +kernel) | refine LX.setS ?_ rfl | refine LX.setA ?_ (by first | assumption | omega))) (by first | assumption | omega) (by first | assumption | omega)) ?_
        rw [ey, tn, far g' 4 k, e2]
        cases ew : whB n ab be (fr k)
        · exact Ends.b0 (fun _ => bad (Or.inl ew)) (fun z => absurd rfl z)
        refine Ends.b0 (fun z => absurd z (by decide)) (fun _ => Ends.g ⟨by omega, by omega⟩ ?_)
        refine Ends.ct l2 (by decide +kernel) (by decide) (c_isWhole722 (ab := ab) (be := be) l2 (by omega) (by omega) (ha_ g _ tp)) (fun y q3 l3 _ _ _ ⟨eq3_, ey⟩ => ?_)
        subst eq3_
        refine Ends.eq (b785_66 (n := n) (by (repeat' first | assumption | refine LX.setF _ _ ?_ (by decide +kernel) | refine LX.setS ?_ rfl | refine LX.setA ?_ (by first | assumption | omega))) (by first | assumption | omega) (by first | assumption | omega)) ?_
        simp (disch := omega) only [hv_set_ne]
        rw [ey]
        cases ew2 : whB n ab be (to_ k)
        · exact Ends.b1 (fun z => absurd rfl z) (fun _ => bad (Or.inr ew2))
        have w1' := whB_is ew
        have w2' := whB_is ew2
        have p1 : hv q3 (B + 166) (2 * fr k) = ab (2 * fr k) := (ha_ g _ fp 0 (by omega)).1
        obtain ⟨p2, -⟩ := ha_ g _ fp 1 (by omega)
        have p3 : hv q3 (B + 166) (2 * to_ k) = ab (2 * to_ k) := (ha_ g _ tp 0 (by omega)).1
        obtain ⟨p4, -⟩ := ha_ g _ tp 1 (by omega)
        simp only [tn, far g' 3 k, far g' 4 k, e1, e2, mul_2p (show fr k < 12 by omega), add_1p (show 2 * fr k < 1000 by omega), mul_2p (show to_ k < 12 by omega), add_1p (show 2 * to_ k < 1000 by omega), p1, p2, p3, p4, T1.1, an0, u3_ok n64 w1'.1, u3_ok n64 w1'.2, u3_ok n64 w2'.1, u3_ok n64 w2'.2, add_1p (show cntN lv k < 1000 by omega)]
        obtain ⟨q4, eq4⟩ : ∃ q4, q4 = hset (hset (hset (hset (hset (hset q3 (B + 168) (cntN lv k) (ab (2 * fr k))) (B + 169) (cntN lv k) (ab (2 * fr k + 1))) (B + 170) (cntN lv k) (ab (2 * to_ k))) (B + 171) (cntN lv k) (ab (2 * to_ k + 1))) (B + 172) (cntN lv k) (k : Int)) (B + 149) 56 ((cntN lv k + 1 : Nat) : Int) := ⟨_, rfl⟩
        have g4m : Agr (pqW B) q3 q4 := by
          rw [eq4]
          exact (((((Agr.rf.set (Or.inl ⟨by omega, by omega⟩)).set (Or.inl ⟨by omega, by omega⟩)).set (Or.inl ⟨by omega, by omega⟩)).set (Or.inl ⟨by omega, by omega⟩)).set (Or.inl ⟨by omega, by omega⟩)).set (Or.inr ⟨rfl, Or.inl rfl⟩)
        have l4 : LX B n q4 := by rw [eq4]; exact (by (repeat' first | assumption | refine LX.setF _ _ ?_ (by decide +kernel) | refine LX.setS ?_ rfl | refine LX.setA ?_ (by assumption)))
        have i4 := hP _ _ iq g4m
        have f0 : hv q4 (B + 149) 56 = ((cntN lv k + 1 : Nat) : Int) := by rw [eq4]; exact hv_set_at _ _ _ _
        have f57 : hv q4 (B + 149) 57 = 0 := by rw [eq4]; simp (disch := omega) only [hv_set_ne]; exact e57
        have f1 : hv q4 (B + 168) (cntN lv k) = ab (2 * fr k) ∧ hv q4 (B + 169) (cntN lv k) = ab (2 * fr k + 1) ∧ hv q4 (B + 170) (cntN lv k) = ab (2 * to_ k) ∧ hv q4 (B + 171) (cntN lv k) = ab (2 * to_ k + 1) ∧ hv q4 (B + 172) (cntN lv k) = (k : Int) := by
          rw [eq4]
          refine ⟨?_, ?_, ?_, ?_, ?_⟩ <;> simp (disch := omega) only [hv_set_ne] <;> exact hv_set_at _ _ _ _
        have f2 : ∀ i, i ≠ cntN lv k → hv q4 (B + 168) i = hv q3 (B + 168) i ∧ hv q4 (B + 169) i = hv q3 (B + 169) i ∧ hv q4 (B + 170) i = hv q3 (B + 170) i ∧ hv q4 (B + 171) i = hv q3 (B + 171) i ∧ hv q4 (B + 172) i = hv q3 (B + 172) i := fun i hi => by
          rw [eq4]
          refine ⟨?_, ?_, ?_, ?_, ?_⟩ <;> simp (disch := omega) only [hv_set_ne]
        rw [← eq4]
        refine Ends.b1 (fun _ => Ends.g ⟨by omega, by omega⟩ (Ends.g ⟨by omega, by omega⟩ (Ends.g ⟨by omega, by omega⟩ (Ends.g ⟨by omega, by omega⟩ (Ends.g ⟨by omega, by omega⟩ (Ends.g ⟨by omega, by omega⟩ ?_)))))) (fun z => absurd z (by decide))
        refine Ends.eq (b785_187 (n := n) (by (repeat' first | assumption | refine LX.setF _ _ ?_ (by decide +kernel) | refine LX.setS ?_ rfl | refine LX.setA ?_ (by first | assumption | omega))) (by first | assumption | omega)) ?_
        rw [w_succ (by omega)]
        refine ih (k + 1) q4 _ _ (by omega) l4 (g.tr g4m (fun _ _ z => z)) i4 ⟨by rw [f0, cntN_s, ed]; rfl, fun j hj z => ?_⟩ f57
        rcases (by omega : j < k ∨ j = k) with u | u
        · have := cnt_ltl u z
          obtain ⟨v1, v2, v3, v4, v5⟩ := f2 (cntN lv j) (by omega)
          rw [v1, v2, v3, v4, v5]
          exact T1.2 j u z
        · rw [u]
          exact ⟨f1, ew, ew2⟩
  exact loop1 nl 0 h u3 u4 (by omega) l Agr.rf i0 ⟨z56, fun j hj => absurd hj (Nat.not_lt_zero j)⟩ z57
end PMA
