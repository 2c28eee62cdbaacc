/-! L3: views (desk): a view is made -/
noncomputable section DMK
variable {gv : Nat → Int} {B n d : Nat} {h : AH} {E : Nat → Bool}
/-- a face has a first facet -/
theorem fst_ex : ∀ (M Y : Nat), fpo n Y = M → Y < 4 * gN n → E Y = true → ∃ K, Fst n E K ∧ FRe n E K Y := by
  intro M
  refine Nat.strongRecOn M (fun M ih => ?_)
  intro Y eM hY hE
  by_cases z : ∃ x, x < 4 * gN n ∧ FRe n E Y x ∧ fpo n x < fpo n Y
  · obtain ⟨x, h1, h2, h3⟩ := z
    obtain ⟨K, k1, k2⟩ := ih (fpo n x) (by omega) x rfl h1 (h2.inE hY hE).2
    exact ⟨K, k1, k2.tr (h2.sym hY hE)⟩
  · refine ⟨Y, ⟨hY, hE, fun x hx r => ?_⟩, FRe.rf⟩
    apply Classical.byContradiction
    intro y
    exact z ⟨x, hx, r, by omega⟩
theorem fpo_lt {k : Nat} (hk : k < 4 * gN n) : fpo n k < 4 * rw3 (8 * n) (8 * n) 0 0 := by
  have b0 := (g8_lt (K4_lt hk) 0).2
  have b1 := (g8_lt (K4_lt hk) 1).2
  have b2 := (g8_lt (K4_lt hk) 2).2
  have := rw3_all b2 b1 b0
  unfold fpo rkS
  omega
theorem FcL.has {m : Nat} {F : Nat → Nat} {Y : Nat} (L : FcL n E (4 * rw3 (8 * n) (8 * n) 0 0) m F) (hY : Y < 4 * gN n) (hE : E Y = true) : ∃ i, i < m ∧ FRe n E (F i) Y := by
  obtain ⟨K, k1, k2⟩ := fst_ex _ Y rfl hY hE
  obtain ⟨i, i1, i2⟩ := L.2.2 K k1 (fpo_lt k1.1)
  exact ⟨i, i1, by rw [i2]; exact k2⟩
theorem FcL.one {m i j : Nat} {F : Nat → Nat} {Y p : Nat} (L : FcL n E p m F) (hi : i < m) (hj : j < m) (ri : FRe n E (F i) Y) (rj : FRe n E (F j) Y) : i = j := by
  have fi := (L.1 i hi).1
  have fj := (L.1 j hj).1
  have rij := ri.tr (rj.sym fj.1 fj.2.1)
  have a := fi.2.2 _ fj.1 rij
  have b := fj.2.2 _ fi.1 (rij.sym fi.1 fi.2.1)
  rcases (by omega : i < j ∨ i = j ∨ j < i) with z | z | z
  · have := L.2.1 i j z hj; omega
  · exact z
  · have := L.2.1 j i z hi; omega
theorem cdN_inj (hn : n ≤ 52) {K K' : Nat} (hK : K < 4 * gN n) (hK' : K' < 4 * gN n) (e : cdN n K = cdN n K') : K = K' := by
  obtain ⟨a1, a2, a3⟩ := cdN_lt hn hK
  obtain ⟨b1, b2, b3⟩ := cdN_lt hn hK'
  obtain ⟨hn0, g1, g2, g3, g4⟩ := g_lt (K4_lt hK)
  obtain ⟨-, k1, k2, k3, k4⟩ := g_lt (K4_lt hK')
  unfold cdN at e
  have e1 : rk n (K / 4) = rk n (K' / 4) := by omega
  have e2 : gX n (K / 4) = gX n (K' / 4) := by omega
  have e3 : K % 4 = K' % 4 := by omega
  obtain ⟨q1, q2, q3⟩ := (rk_eq (K4_lt hK) k3 k2).mp (e1.trans rfl)
  have : K / 4 = K' / 4 := by rw [← gI_g (n := n) (g := K / 4), ← gI_g (n := n) (g := K' / 4), q1, q2, q3, e2]
  omega
/-- the table holds the codes of C, each where it is looked for -/
def TbK (n : Nat) (hs : Int → Nat) (K : Nat → Int) (C : Int → Prop) : Prop := (∀ k, k < rmN n → K k = -1 ∨ (C (K k) ∧ sIs (rmN n) K (hs (K k)) (K k) k)) ∧ ∀ c, C c → c ≠ -1 ∧ ∃ k, k < rmN n ∧ K k = c
theorem TbK.find {hs : Int → Nat} {K : Nat → Int} {C : Int → Prop} {c : Int} {k : Nat} (T : TbK n hs K C) (hk : k < rmN n) (s : sIs (rmN n) K (hs c) c k) : (C c → K k = c) ∧ (∀ k', k' < rmN n → K k' = c → c ≠ -1 → k' = k) := by
  have un : ∀ k', k' < rmN n → K k' = c → c ≠ -1 → k' = k := fun k' hk' e hc => by
    rcases T.1 k' hk' with z | ⟨-, z⟩
    · exact absurd (e.symm.trans z) hc
    · rw [e] at z
      exact z.uniq s
  refine ⟨fun hc => ?_, un⟩
  obtain ⟨c1, k', k1, k2⟩ := T.2 c hc
  rw [← un k' k1 k2 c1]; exact k2
theorem TbK.put {hs : Int → Nat} {K K' : Nat → Int} {C : Int → Prop} {c : Int} {k : Nat} (T : TbK n hs K C) (hk : k < rmN n) (s : sIs (rmN n) K (hs c) c k) (hc : c ≠ -1) (e1 : K' k = c) (e2 : ∀ j, j ≠ k → K' j = K j) : TbK n hs K' (fun x => C x ∨ x = c) ∧ cntN (fun j => decide (K' j ≠ -1)) (rmN n) ≤ cntN (fun j => decide (K j ≠ -1)) (rmN n) + 1 := by
  obtain ⟨j, j1, j2, j3, j4⟩ := s
  by_cases same : K k = c
  · have : K' = K := funext (fun i => by
      by_cases z : i = k
      · rw [z, e1, same]
      · exact e2 i z)
    rw [this]
    refine ⟨⟨fun i hi => (T.1 i hi).imp id (fun z => ⟨Or.inl z.1, z.2⟩), fun x hx => ?_⟩, by omega⟩
    rcases hx with hx | hx
    · exact T.2 x hx
    · rw [hx]; exact ⟨hc, k, hk, same⟩
  have free : K k = -1 := by rcases j4 with z | z; exact z; exact absurd z same
  refine ⟨⟨fun i hi => ?_, fun x hx => ?_⟩, ?_⟩
  · by_cases z : i = k
    · right
      rw [z, e1]
      refine ⟨Or.inr rfl, j, j1, j2, fun i' hi' => ?_, Or.inr e1⟩
      have := j3 i' hi'
      rw [e2 _ (fun y => by rw [y, free] at this; exact this.1 rfl)]
      exact this
    · rw [e2 i z]
      rcases T.1 i hi with y | ⟨y1, y2⟩
      · exact Or.inl y
      · right
        obtain ⟨m, m1, m2, m3, m4⟩ := y2
        refine ⟨Or.inl y1, m, m1, m2, fun i' hi' => ?_, Or.inr (e2 i z)⟩
        have := m3 i' hi'
        rw [e2 _ (fun y => by rw [y, free] at this; exact this.1 rfl)]
        exact this
  · rcases hx with hx | hx
    · obtain ⟨x1, k', k1, k2⟩ := T.2 x hx
      exact ⟨x1, k', k1, by rw [e2 k' (fun y => x1 (by rw [← k2, y]; exact free))]; exact k2⟩
    · rw [hx]; exact ⟨hc, k, hk, e1⟩
  · have := cntN_set (S := fun j => decide (K j ≠ -1)) (a := k) (by rw [decide_eq_false_iff_not]; exact fun y => y free) (rmN n)
    rw [if_pos hk] at this
    rw [← this]
    refine Nat.le_of_eq (cntN_congr _ (fun i _ => ?_))
    by_cases z : i = k
    · rw [z, e1, decide_eq_true hc, decide_eq_true rfl, Bool.or_true]
    · rw [e2 i z, decide_eq_false z, Bool.or_false]
theorem TbK.free {K : Nat → Int} {t : Nat} (hc : cntN (fun j => decide (K j ≠ -1)) (rmN n) ≤ t) (ht : t < rmN n) : ∃ k, k < rmN n ∧ K k = -1 := by
  apply Classical.byContradiction
  intro no
  have := cntN_congr (f := fun j => decide (K j ≠ -1)) (g := fun _ => true) (rmN n) (fun i hi => decide_eq_true (fun y => no ⟨i, hi, y⟩))
  rw [cnt_tt] at this
  omega
/-- View's cells -/
def VwC (B n : Nat) (h : AH) (sh kc fc : Nat) : Prop := (hv h (B + 132) 4 = rf sh ∧ hv h (B + 132) 5 = rf kc ∧ hv h (B + 132) 6 = rf fc ∧ hv h (B + 132) 7 = ((rmN n : Nat) : Int)) ∧ (hk h sh = (2, 8 * n * n) ∧ hk h kc = (2, rmN n) ∧ hk h fc = (2, rmN n)) ∧ (B + 246 ≤ sh ∧ sh < hnx h ∧ B + 246 ≤ kc ∧ kc < hnx h ∧ B + 246 ≤ fc ∧ fc < hnx h) ∧ sh ≠ kc ∧ sh ≠ fc ∧ kc ≠ fc
theorem VwC.exg {sh kc fc : Nat} {W : Nat → Nat → Prop} {t : AH} (v : VwC B n h sh kc fc) (hb : B + 246 ≤ hnx h) (g : ExG W h t) (hW : ∀ k, 4 ≤ k → k ≤ 7 → ¬ W (B + 132) k) : VwC B n t sh kc fc := by
  obtain ⟨⟨a1, a2, a3, a4⟩, ⟨b1, b2, b3⟩, ⟨c1, c2, c3, c4, c5, c6⟩, d1⟩ := v
  have nx := g.2.2.1
  exact ⟨⟨by rw [g.at _ (by omega) (hW _ (by decide) (by decide))]; exact a1, by rw [g.at _ (by omega) (hW _ (by decide) (by decide))]; exact a2, by rw [g.at _ (by omega) (hW _ (by decide) (by decide))]; exact a3, by rw [g.at _ (by omega) (hW _ (by decide) (by decide))]; exact a4⟩, ⟨by rw [g.hk c2]; exact b1, by rw [g.hk c4]; exact b2, by rw [g.hk c6]; exact b3⟩, ⟨c1, by omega, c3, by omega, c5, by omega⟩, d1⟩
def VwD (B n : Nat) (h : AH) (kc fc : Nat) : Prop := (hv h (B + 132) 5 = rf kc ∧ hv h (B + 132) 6 = rf fc ∧ hv h (B + 132) 7 = ((rmN n : Nat) : Int)) ∧ (hk h kc = (2, rmN n) ∧ hk h fc = (2, rmN n)) ∧ B + 246 ≤ fc ∧ kc ≠ fc
/-- a facet is seen -/
theorem c_facet464 {kc fc K : Nat} {face : Int} {C : Int → Prop} (l : LX B n h) (hd : 13 ≤ d) (hn : n ≤ 52) (v : VwD B n h kc fc) (T : TbK n (hsD n) (hv h kc) C) (fr : ∃ k, k < rmN n ∧ hv h kc k = -1) (hK : K < 4 * gN n) (hC : ∀ c, C c → 0 ≤ c) :
    Vd (cll PP (ev PP (gsF gv) B) d 464 [(2, rf (B + 132)), (0, ((gSo (K / 4) : Nat) : Int)), (0, ((K % 4 : Nat) : Int)), (0, ((gX n (K / 4) : Nat) : Int)), (0, ((gY n (K / 4) : Nat) : Int)), (0, ((gZ n (K / 4) : Nat) : Int)), (0, face)] h) (fun h' => Agr (fun c _ => c = fc) h h' ∧ ∀ k, k < rmN n → hv h' fc k = if hv h kc k = (cdN n K : Int) then face else hv h fc k) := by
  obtain ⟨hn0, g1, g2, g3, g4⟩ := g_lt (K4_lt hK)
  obtain ⟨k0, hk0, e0⟩ := fr
  obtain ⟨⟨a2, a3, a4⟩, ⟨b2, b3⟩, c5, d1⟩ := v
  refine Vd.inq (D := 12) hd (Nat.le_of_ble_eq_true rfl) rfl (fun d hd Q KK => ?_)
  refine Ends.eq (b464_0 l (by omega)) ?_
  rw [show v159 n ((gSo (K / 4) : Nat) : Int) ((K % 4 : Nat) : Int) ((gX n (K / 4) : Nat) : Int) ((gY n (K / 4) : Nat) : Int) ((gZ n (K / 4) : Nat) : Int) = (cdN n K : Int) from by
    rw [cd_at hn g4 (Nat.mod_lt _ (by decide)) g1 g2 g3, gI_g, show 4 * (K / 4) + K % 4 = K by omega]]
  refine Ends.ct l (by decide +kernel) (by decide) (c_slot471 l (by omega) a2 b2 a4 hk0 e0) (fun x h2 l2 _ _ _ ⟨e2, k, ek, hk, sk⟩ => ?_)
  subst e2
  obtain ⟨f1, f2⟩ := T.find hk sk
  refine Ends.eq (b464_18 l2 (by omega)) ?_
  rw [ek, a2, ad_rf, b2, tn, a3, ad_rf, b3, an0]
  refine Ends.g ⟨rf_pos _, rfl, by omega, by show (k : Int) < ((rmN n : Nat) : Int); omega⟩ (Ends.b2 (fun z => ?_) (fun z => ?_))
  · refine Ends.eq (b464_39 l2 (by omega)) (Ends.sm (KK _ ⟨Agr.rf, fun k' hk' => ?_⟩))
    rw [if_neg (fun y => ?_)]
    have := f2 k' hk' y (by omega)
    rw [this] at y
    omega
  · have hc : hv h2 kc k = (cdN n K : Int) := by
      obtain ⟨j, -, -, -, j4⟩ := sk
      rcases j4 with y | y
      · omega
      · exact y
    have l3 : LX B n (hset h2 fc k face) := LX.setA (t := 0) l2 (by rw [b3])
    refine Ends.g ⟨rf_pos _, rfl, by omega, by show (k : Int) < ((rmN n : Nat) : Int); omega, by omega⟩ ?_
    refine Ends.eq (b464_39 l3 (by omega)) (Ends.sm (KK _ ⟨Agr.rf.set rfl, fun k' hk' => ?_⟩))
    by_cases z : k' = k
    · rw [z, hv_set_at, if_pos hc]
    · rw [hv_set_ne (fun y => z y.2), if_neg (fun y => z (f2 k' hk' y (by omega)))]
/-- places of pieces -/
def ixV (n p u v : Nat) : Nat := 8 * (v * n + u) + p
theorem ixV_lt {p u v : Nat} (hp : p < 8) (hu : u < n) (hv' : v < n) : ixV n p u v < 8 * n * n := by
  have : (v + 1) * n ≤ n * n := Nat.mul_le_mul_right n hv'
  rw [Nat.succ_mul] at this
  unfold ixV
  rw [Nat.mul_assoc]
  omega
theorem ixV_inj {p u v p' u' v' : Nat} (hp : p < 8) (hu : u < n) (hp' : p' < 8) (hu' : u' < n) (e : ixV n p u v = ixV n p' u' v') : p = p' ∧ u = u' ∧ v = v' := by
  unfold ixV at e
  have e1 : p = p' := by omega
  have e2 : v * n + u = v' * n + u' := by omega
  have a := congrArg (· % n) e2
  have b := congrArg (· / n) e2
  simp only [(dm hu).1, (dm hu).2, (dm hu').1, (dm hu').2] at a b
  exact ⟨e1, a, b⟩
theorem ixV_is (hn : n ≤ 52) {p u v : Nat} (hp : p < 8) (hu : u < n) (hv' : v < n) : bop32 96 (bop32 104 (8 : Int) (bop32 96 (bop32 104 (v : Int) (n : Int)) (u : Int))) (p : Int) = ((ixV n p u v : Nat) : Int) := by
  have : v * n ≤ 52 * 52 := Nat.mul_le_mul (by omega) hn
  rw [mulNN (by omega), addNN (by omega), show bop32 104 (8 : Int) ((v * n + u : Nat) : Int) = ((8 * (v * n + u) : Nat) : Int) from mulNN (x := 8) (by omega), addNN (by omega)]
  rfl
theorem n88 (hn : n ≤ 52) : bop32 104 (bop32 104 (8 : Int) (n : Int)) (n : Int) = ((8 * n * n : Nat) : Int) ∧ 8 * n * n ≤ 21632 := by
  have : n * n ≤ 52 * 52 := Nat.mul_le_mul hn hn
  have e : 8 * n * n ≤ 21632 := by rw [Nat.mul_assoc]; omega
  exact ⟨by rw [show bop32 104 (8 : Int) (n : Int) = ((8 * n : Nat) : Int) from mulNN (x := 8) (by omega), mulNN (by omega)], e⟩
/-- which lines come to something: pieces, then rows (desk) -/
def vwB (n : Nat) (S : Nat → Bool) (ax dn : Nat) (L : Nat) : Bool := decide (ffP n S ax dn (L / (n * n)) (L % n) (L / n % n) < 5 * n)
/-- what a view shows, by the faces' numbers -/
def VwS (n : Nat) (S : Nat → Bool) (ax dn mm : Nat) (F : Nat → Nat) (vw : Nat → Int) : Prop := ∀ p u v, p < 8 → u < n → v < n → (ffP n S ax dn p u v < 5 * n → ∃ i, i < mm ∧ FRe n (bdr n S) (F i) (ffK n S ax dn p u v) ∧ vw (ixV n p u v) = (i : Int)) ∧ (¬ ffP n S ax dn p u v < 5 * n → vw (ixV n p u v) = -1)
end DMK
