/-! L3: Formulas while a text is read; number -/
theorem en_all {P : Int → Bool} {u : Nat → Int} {m : Nat} (hP : P (-1) = false) : ∀ (k p : Nat), m - p = k → ∀ j, p ≤ j → j < en P u m p → P (chr u m j) = true := by
  intro k
  induction k with
  | zero =>
    intro p hk j h1 h2
    cases h : P (chr u m p) with
    | true => have := (en_t hP h).2; omega
    | false => rw [en_f h] at h2; omega
  | succ k ih =>
    intro p hk j h1 h2
    cases h : P (chr u m p) with
    | true =>
      rw [(en_t hP h).1] at h2
      by_cases e : j = p
      · rw [e]; exact h
      · exact ih (p + 1) (by omega) j (by omega) h2
    | false => rw [en_f h] at h2; omega
theorem dig_u {u : Nat → Int} {m p j : Nat} (h1 : p ≤ j) (h2 : j < en isD u m p) : 48 ≤ u j ∧ u j ≤ 57 := by
  have h := en_all (P := isD) (u := u) (m := m) rfl _ p rfl j h1 h2
  have hm : j < m := by
    by_cases e : j < m
    · exact e
    · rw [show chr u m j = -1 from if_neg e] at h; exact absurd h (by decide)
  have := isD_r h
  rw [show chr u m j = u j from if_pos hm] at this
  exact this
theorem nAb_r {u : Nat → Int} {m f : Nat} (ok : nOK u m f = true) : (0 ≤ nAb u m f ∧ nAb u m f ≤ 10000000000) ∧ (1 ≤ nBe u m f ∧ nBe u m f ≤ 10000) := by
  unfold nOK at ok
  simp only [Bool.and_eq_true, decide_eq_true_eq, Bool.or_eq_true, Bool.not_eq_true'] at ok
  obtain ⟨o1, o2⟩ := ok
  have ge1 : f ≤ nE1 u m f := en_ge
  obtain ⟨a1, a2⟩ := hor_b (u := u) (p := f) (nE1 u m f - f) 0 (fun j hj => dig_u (m := m) (p := f) (by omega) (by show f + j < nE1 u m f; omega)) (Int.le_refl 0)
  have t1 := p10' o1
  unfold nAb nBe
  cases hp : nPt u m f with
  | false =>
    rw [if_neg (by decide), if_neg (by decide)]
    omega
  | true =>
    rw [if_pos rfl, if_pos rfl]
    have o2 : nE2 u m f - nE1 u m f ≤ 5 := by
      rcases o2 with h | h
      · rw [hp] at h; cases h
      · exact h
    have e2 : nE2 u m f = en isD u m (nE1 u m f + 1) := by unfold nE2; rw [hp]; rfl
    have ge2 : nE1 u m f + 1 ≤ nE2 u m f := by rw [e2]; exact en_ge
    obtain ⟨b1, b2⟩ := hor_b (u := u) (p := nE1 u m f + 1) (nE2 u m f - nE1 u m f - 1) (hor u (nE1 u m f - f) f 0) (fun j hj => dig_u (m := m) (p := nE1 u m f + 1) (by omega) (by rw [← e2]; omega)) a1
    have t2 := p10 (j := nE2 u m f - nE1 u m f - 1) (by omega)
    have t3 : (hor u (nE1 u m f - f) f 0 + 1) * 10 ^ (nE2 u m f - nE1 u m f - 1) ≤ 100000 * 10 ^ (nE2 u m f - nE1 u m f - 1) := Int.mul_le_mul_of_nonneg_right (by omega) (by omega)
    omega
/-- a text of the program -/
def StB (gv : Nat → Int) (B : Nat) (h : AH) (x : Int) (s : List Int) : Prop := StrA gv h x s ∧ ad x < B ∧ ad (hv h (ad x) 0) < B
theorem StB.agr {gv : Nat → Int} {B : Nat} {h t : AH} {x : Int} {s : List Int} {W : Nat → Nat → Prop} (S : StB gv B h x s) (g : Agr W h t) (hW : ∀ c k, c < B → ¬ W c k) : StB gv B t x s := by
  obtain ⟨⟨a1, a2, a3, a4, a5, a6, a7, a8⟩, b1, b2⟩ := S
  have e0 : hv t (ad x) 0 = hv h (ad x) 0 := g.at _ _ (hW _ _ b1)
  refine ⟨⟨a1, by rw [g.hk]; exact a2, by rw [e0]; exact a3, by rw [e0, g.hk]; exact a4, fun i c hc => ?_, by rw [g.at _ _ (hW _ _ b1)]; exact a6, a7, a8⟩, b1, by rw [e0]; exact b2⟩
  rw [e0, g.at _ _ (hW _ _ b2)]; exact a5 i c hc
def FnB (gv : Nat → Int) (B : Nat) (h : AH) : Prop := StB gv B h (gv 47) oneL ∧ (∀ i s, fnS[i]? = some s → StB gv B h (gv (21 + i)) s) ∧ StB gv B h (gv 32) [109, 109] ∧ StB gv B h (gv 33) [99, 109] ∧ StB gv B h (gv 34) [105, 110]
theorem FnB.t {gv : Nat → Int} {B : Nat} {h : AH} (F : FnB gv B h) : FnT gv h := ⟨F.1.1, fun i s hs => (F.2.1 i s hs).1, F.2.2.1.1, F.2.2.2.1.1, F.2.2.2.2.1⟩
theorem FnB.agr {gv : Nat → Int} {B : Nat} {h t : AH} {W : Nat → Nat → Prop} (F : FnB gv B h) (g : Agr W h t) (hW : ∀ c k, c < B → ¬ W c k) : FnB gv B t := ⟨F.1.agr g hW, fun i s hs => (F.2.1 i s hs).agr g hW, F.2.2.1.agr g hW, F.2.2.2.1.agr g hW, F.2.2.2.2.agr g hW⟩
/-- what reading a text may write -/
def FW (B k : Nat) : Nat → Nat → Prop := fun c z => (c = B + 8 ∧ 2 ≤ z) ∨ (c = B + 7 ∧ (z = 8 ∨ z = 9 ∨ z = 10 ∨ z = 14)) ∨ (B + 11 ≤ c ∧ c ≤ B + 14 ∧ k ≤ z) ∨ c = B + 21 ∨ c = B + 22
/-- the readers, the texts, the store's cells c; nv VALUES; tl the one that is told -/
def FI (gv : Nat → Int) (B : Nat) (h : AH) (a m : Nat) (u c : Nat → Int) (nv : Nat) (tl : Int) : Prop := SgP B h (B + 8) a m u ∧ FnB gv B h ∧ a ≠ B + 22 ∧ (∀ i, i < m → -128 ≤ hv h a i ∧ hv h a i < 128) ∧ (∀ z, z < 37368 → hv h (B + 2) z = c z) ∧ c 0 = (nv : Int) ∧ nv ≤ 40 ∧ hv h (B + 7) 12 = tl ∧ m ≤ 240 ∧ ∃ N, hk h a = (4, N) ∧ m ≤ N ∧ N ≤ 100000
section FI
variable {gv : Nat → Int} {B n d a m k nv : Nat} {h t : AH} {u c : Nat → Int} {tl : Int}
theorem FI.na (F : FI gv B h a m u c nv tl) (l : LX B n h) : a ≠ B + 7 ∧ a ≠ B + 8 ∧ a ≠ B + 21 ∧ (a < B + 11 ∨ B + 14 < a) ∧ a ≠ B + 22 := by
  obtain ⟨_, _, h22, _, _, _, _, _, _, N, kN, _⟩ := F
  have k1 : (hk h a).1 = 4 := by rw [kN]
  have ne : ∀ i kd, hk h (B + i) = kd → kd.1 ≠ 4 → a ≠ B + i := fun i kd e1 e2 e3 => by rw [e3, e1] at k1; exact e2 k1
  have n7 := ne 7 _ (lk_7 l) (by decide)
  have n8 := ne 8 _ (lk_8 l) (by decide)
  have n21 := ne 21 _ (lk_21 l) (by decide)
  have n11 := ne 11 _ (lk_11 l) (by decide)
  have n12 := ne 12 _ (lk_12 l) (by decide)
  have n13 := ne 13 _ (lk_13 l) (by decide)
  have n14 := ne 14 _ (lk_14 l) (by decide)
  exact ⟨n7, n8, n21, by omega, h22⟩
theorem FI.agr (F : FI gv B h a m u c nv tl) (l : LX B n h) (g : Agr (FW B k) h t) : FI gv B t a m u c nv tl := by
  obtain ⟨n1, n2, n3, n4, n5⟩ := F.na l
  obtain ⟨⟨⟨y1, y2⟩, s1, ⟨N0, s2, s3⟩, s4, s5, s6⟩, f2, f3, f4, f5, f6, f7, f8, f9, N, kN, hN⟩ := F
  have ha : ∀ z, hv t a z = hv h a z := fun z => g.at _ _ (by unfold FW; omega)
  refine ⟨⟨⟨by rw [g.hk]; exact y1, y2⟩, by rw [g.at _ _ (by unfold FW; omega)]; exact s1, ⟨N0, by rw [g.hk]; exact s2, s3⟩, by rw [g.at _ _ (by unfold FW; omega)]; exact s4, fun i hi => by rw [ha]; exact s5 i hi, s6⟩, f2.agr g (fun c z hc => by unfold FW; omega), f3, fun i hi => by rw [ha]; exact f4 i hi, fun z hz => by rw [g.at _ _ (by unfold FW; omega)]; exact f5 z hz, f6, f7, by rw [g.at _ _ (by unfold FW; omega)]; exact f8, f9, N, by rw [g.hk]; exact kN, hN⟩
theorem FW_sg : ∀ c z, sgW (B + 8) c z → FW B k c z := fun c z q => Or.inl q
theorem FW_pl : ∀ c z, plW B k c z → FW B k c z := fun c z q => by
  rcases q with q | q
  · exact Or.inr (Or.inl ⟨q.1, Or.inl q.2⟩)
  · exact Or.inr (Or.inr (Or.inl q))
theorem FW_le {j : Nat} (hj : k ≤ j) : ∀ c z, FW B j c z → FW B k c z := fun c z q => by
  unfold FW at *; omega
theorem SgT.agr {p : Nat} {W : Nat → Nat → Prop} (R : SgT h (B + 8) u m p) (g : Agr W h t) (hW : ∀ z, ¬ W (B + 8) z) : SgT t (B + 8) u m p := by
  obtain ⟨r1, r2, r3, r4, r5⟩ := R
  refine ⟨by rw [g.at _ _ (hW _)]; exact r1, by rw [g.at _ _ (hW _)]; exact r2, by rw [g.at _ _ (hW _)]; exact r3, by rw [g.at _ _ (hW _)]; exact r4, fun e => ?_⟩
  rw [g.at _ _ (hW _), g.at _ _ (hW _)]; exact r5 e
theorem wd_x {p : Nat} {s s' : List Int} (h1 : isWd u m p s) (h2 : isWd u m p s') (x y : Int) (e1 : s[0]? = some x) (e2 : s'[0]? = some y) (ne : x ≠ y) : False := ne ((h1.2.2 0 x e1).symm.trans (h2.2.2 0 y e2))
theorem c_numberF (l : LX B n h) (hd : 18 ≤ d) (F : FI gv B h a m u c nv tl) {p : Nat} (hp : p ≤ m) (R : SgT h (B + 8) u m p) (k2 : tkK u m p = 2) (h8 : hv h (B + 7) 8 = (k : Int)) (hk : k < 199) :
    Vd (cll PP (ev PP (gsF gv) B) d 211 [(2, rf (B + 7))] h) (fun h' => Agr (FW B k) h h' ∧ SgT h' (B + 8) u m (numD u m p).2 ∧ hv h' (B + 7) 8 = ((k + 1 : Nat) : Int) ∧ frA B h' k = (numD u m p).1) := by
  have ok : nOK u m (tkF u m p) = true := by
    unfold tkK at k2
    split at k2
    · omega
    split at k2
    · split at k2 <;> omega
    split at k2
    · split at k2
      · next z => exact z
      · omega
    · omega
  obtain ⟨⟨a1, a2⟩, b1, b2⟩ := nAb_r ok
  obtain ⟨t1, t2, t3⟩ := tk_le (u := u) hp
  obtain ⟨t4, t5, t6⟩ := tk_le (u := u) (p := tkT u m p) t2
  refine Vd.into (D := 17) hd (Nat.le_of_ble_eq_true rfl) rfl (fun d hd => ?_)
  refine Ends.eq (b211_0 (n := n) (by (repeat' first | assumption | refine LX.setF _ _ ?_ (by decide +kernel) | refine LX.setS ?_ rfl | refine LX.setA ?_ (by first | assumption | omega))) (by first | assumption | omega)) ?_
  rw [(R.2.2.2.2 k2).1, (R.2.2.2.2 k2).2]
  refine Ends.cv l (by decide +kernel) (c_sgNext l (by omega) F.1 F.2.1.t.1 R.2.2.1 t2) (fun q l1 _ _ _ ⟨g1, R1⟩ => ?_)
  have G1 : Agr (FW B k) h q := g1.sub FW_sg
  have F1 := F.agr l G1
  have q8 : hv q (B + 7) 8 = (k : Int) := by rw [g1.at _ _ (by unfold sgW; omega)]; exact h8
  have go := fun (x : Int) (s : List Int) (T : StrA gv q x s) => c_isWord (gv := gv) (d := d) l1 (by omega) F1.1 T R1 t2 F1.2.2.2.1
  -- the end: lay
  have fin : ∀ (X Y kd : Int) (p2 : Nat) (q2 : AH) (u2 u4 : AV), LX B n q2 → Agr (FW B k) h q2 → SgT q2 (B + 8) u m p2 → hv q2 (B + 7) 8 = (k : Int) → -1000000000000000 ≤ X ∧ X ≤ 1000000000000000 → 1 ≤ Y ∧ Y ≤ 1000000 → (mkF X Y kd, p2) = numD u m p → Ends (ev PP (gsF gv) B d 211 121 [(2, rf (B + 7)), (1, X), u2, (1, Y), u4, (0, kd)] [] q2) (fun r => ∃ h', r = ((0, (9, 0)), h') ∧ Agr (FW B k) h h' ∧ SgT h' (B + 8) u m (numD u m p).2 ∧ hv h' (B + 7) 8 = ((k + 1 : Nat) : Int) ∧ frA B h' k = (numD u m p).1) := by
    intro X Y kd p2 q2 u2 u4 l2 G2 R2 e8 hX hY eN
    refine Ends.eq (b211_121 (n := n) (by (repeat' first | assumption | refine LX.setF _ _ ?_ (by decide +kernel) | refine LX.setS ?_ rfl | refine LX.setA ?_ (by first | assumption | omega))) (by first | assumption | omega)) ?_
    refine Ends.cv l2 (by decide +kernel) (c_lay (k := k) l2 (by omega) e8 (by omega) (by omega) (by omega) (by omega)) (fun q3 l3 _ _ _ ⟨g3, e3, f3⟩ => ?_)
    refine Ends.eq (b211_129 (n := n) (by (repeat' first | assumption | refine LX.setF _ _ ?_ (by decide +kernel) | refine LX.setS ?_ rfl | refine LX.setA ?_ (by first | assumption | omega))) (by first | assumption | omega)) ?_
    refine Ends.sm ⟨_, rfl, G2.tr g3 FW_pl, ?_, e3, ?_⟩
    · rw [← eN]; exact R2.agr g3 (fun z => by unfold plW; omega)
    · rw [← eN]; exact f3
  have f108 : ∀ (X Y : Int) (u2 u4 : AV), -1000000000000000 ≤ X ∧ X ≤ 1000000000000000 → 1 ≤ Y ∧ Y ≤ 1000000 → (mkF X Y 1, tkT u m (tkT u m p)) = numD u m p → Ends (ev PP (gsF gv) B d 211 108 [(2, rf (B + 7)), (1, X), u2, (1, Y), u4, (0, 1)] [] q) (fun r => ∃ h', r = ((0, (9, 0)), h') ∧ Agr (FW B k) h h' ∧ SgT h' (B + 8) u m (numD u m p).2 ∧ hv h' (B + 7) 8 = ((k + 1 : Nat) : Int) ∧ frA B h' k = (numD u m p).1) := by
    intro X Y u2 u4 hX hY eN
    refine Ends.eq (b211_108 (n := n) (by (repeat' first | assumption | refine LX.setF _ _ ?_ (by decide +kernel) | refine LX.setS ?_ rfl | refine LX.setA ?_ (by first | assumption | omega))) (by first | assumption | omega)) ?_
    refine Ends.b1 (fun z => absurd rfl z) (fun _ => ?_)
    refine Ends.cv l1 (by decide +kernel) (c_sgNext l1 (by omega) F1.1 F1.2.1.t.1 R1.2.2.1 t5) (fun q2 l2 _ _ _ ⟨g2, R2⟩ => ?_)
    exact fin X Y 1 _ q2 u2 u4 l2 (G1.tr g2 FW_sg) R2 (by rw [g2.at _ _ (by unfold sgW; omega)]; exact q8) hX hY eN
  have f72 : ∀ (u2 u4 : AV), ¬ u4.1 = 1 → (isWd u m (tkT u m p) [109, 109] ∨ isWd u m (tkT u m p) [99, 109] ∨ isWd u m (tkT u m p) [105, 110]) → Ends (aft PP 211 72 75 [(2, rf (B + 7)), (1, nAb u m (tkF u m p)), u2, (1, nBe u m (tkF u m p)), u4, (0, 1)] [] (ev PP (gsF gv) B d 211) (cll PP (ev PP (gsF gv) B) d 371 [(2, rf (B + 8)), (2, gv 33)] q)) (fun r => ∃ h', r = ((0, (9, 0)), h') ∧ Agr (FW B k) h h' ∧ SgT h' (B + 8) u m (numD u m p).2 ∧ hv h' (B + 7) 8 = ((k + 1 : Nat) : Int) ∧ frA B h' k = (numD u m p).1) := by
    intro u2 u4 nu4 hw
    refine Ends.ct l1 (by decide +kernel) (by decide) (go _ _ F1.2.1.t.2.2.2.1) (fun v q2 l2 _ _ _ ⟨eh, w⟩ => ?_)
    subst eh
    refine Ends.eq (b211_75 (n := n) (by (repeat' first | assumption | refine LX.setF _ _ ?_ (by decide +kernel) | refine LX.setS ?_ rfl | refine LX.setA ?_ (by first | assumption | omega))) (by first | assumption | omega)) ?_
    rcases w with ⟨w, rfl⟩ | ⟨w, rfl⟩
    · refine Ends.b0 (fun z => absurd z (by decide)) (fun _ => ?_)
      rw [mul64 (by omega) (by omega)]
      refine Ends.eq (b211_84 (n := n) (by (repeat' first | assumption | refine LX.setF _ _ ?_ (by decide +kernel) | refine LX.setS ?_ rfl | refine LX.setA ?_ (by first | assumption | omega))) (by first | assumption | omega)) ?_
      refine Ends.ct l1 (by decide +kernel) (by decide) (go _ _ F1.2.1.t.2.2.2.2) (fun v q3 l3 _ _ _ ⟨eh, w2⟩ => ?_)
      subst eh
      refine Ends.eq (b211_93 (n := n) (by (repeat' first | assumption | refine LX.setF _ _ ?_ (by decide +kernel) | refine LX.setS ?_ rfl | refine LX.setA ?_ (by first | assumption | omega))) (by first | assumption | omega)) ?_
      rcases w2 with ⟨w2, rfl⟩ | ⟨w2, rfl⟩
      · exact (wd_x w w2 99 105 rfl rfl (by decide)).elim
      · refine Ends.b0 (fun _ => f108 _ _ _ _ (by omega) (by omega) ?_) (fun z => absurd rfl z)
        unfold numD
        rw [itP_f (fun w3 => wd_x w w3 99 109 rfl rfl (by decide)), itP_t w]
    · refine Ends.b0 (fun _ => ?_) (fun z => absurd rfl z)
      refine Ends.eq (b211_84 (n := n) (by (repeat' first | assumption | refine LX.setF _ _ ?_ (by decide +kernel) | refine LX.setS ?_ rfl | refine LX.setA ?_ (by first | assumption | omega))) (by first | assumption | omega)) ?_
      refine Ends.ct l1 (by decide +kernel) (by decide) (go _ _ F1.2.1.t.2.2.2.2) (fun v q3 l3 _ _ _ ⟨eh, w2⟩ => ?_)
      subst eh
      refine Ends.eq (b211_93 (n := n) (by (repeat' first | assumption | refine LX.setF _ _ ?_ (by decide +kernel) | refine LX.setS ?_ rfl | refine LX.setA ?_ (by first | assumption | omega))) (by first | assumption | omega)) ?_
      rcases w2 with ⟨w2, rfl⟩ | ⟨w2, rfl⟩
      · refine Ends.b0 (fun z => absurd z (by decide)) (fun _ => ?_)
        rw [mul64 (by omega) (by omega), mul64 (by omega) (by omega)]
        refine f108 _ _ _ _ (by omega) (by omega) ?_
        unfold numD
        rw [itP_f (fun w3 => wd_x w2 w3 105 109 rfl rfl (by decide)), itP_f w, itP_t w2]
      · refine Ends.b0 (fun _ => f108 _ _ _ _ (by omega) (by omega) ?_) (fun z => absurd rfl z)
        rcases hw with hw | hw | hw
        · unfold numD; rw [itP_t hw]
        · exact absurd hw w
        · exact absurd hw w2
  refine Ends.eq (b211_23 (n := n) (by (repeat' first | assumption | refine LX.setF _ _ ?_ (by decide +kernel) | refine LX.setS ?_ rfl | refine LX.setA ?_ (by first | assumption | omega))) (by first | assumption | omega)) ?_
  refine Ends.ct l1 (by decide +kernel) (by decide) (go _ _ F1.2.1.t.2.2.1) (fun v q2 l2 _ _ _ ⟨eh, w⟩ => ?_)
  subst eh
  refine Ends.eq (b211_32 (n := n) (by (repeat' first | assumption | refine LX.setF _ _ ?_ (by decide +kernel) | refine LX.setS ?_ rfl | refine LX.setA ?_ (by first | assumption | omega))) (by first | assumption | omega)) ?_
  rcases w with ⟨w, rfl⟩ | ⟨w, rfl⟩
  · refine Ends.b1 (fun _ => ?_) (fun z => absurd z (by decide))
    refine Ends.eq (b211_59 (n := n) (by (repeat' first | assumption | refine LX.setF _ _ ?_ (by decide +kernel) | refine LX.setS ?_ rfl | refine LX.setA ?_ (by first | assumption | omega))) (by first | assumption | omega)) ?_
    refine Ends.eq (b211_64 (n := n) (by decide) l1 (by omega)) ?_
    exact f72 _ _ (by decide) (Or.inl w)
  refine Ends.b1 (fun z => absurd rfl z) (fun _ => ?_)
  refine Ends.ct l1 (by decide +kernel) (by decide) (go _ _ F1.2.1.t.2.2.2.1) (fun v q3 l3 _ _ _ ⟨eh, w2⟩ => ?_)
  subst eh
  refine Ends.eq (b211_44 (n := n) (by (repeat' first | assumption | refine LX.setF _ _ ?_ (by decide +kernel) | refine LX.setS ?_ rfl | refine LX.setA ?_ (by first | assumption | omega))) (by first | assumption | omega)) ?_
  rcases w2 with ⟨w2, rfl⟩ | ⟨w2, rfl⟩
  · refine Ends.b1 (fun _ => ?_) (fun z => absurd z (by decide))
    refine Ends.eq (b211_59 (n := n) (by (repeat' first | assumption | refine LX.setF _ _ ?_ (by decide +kernel) | refine LX.setS ?_ rfl | refine LX.setA ?_ (by first | assumption | omega))) (by first | assumption | omega)) ?_
    refine Ends.eq (b211_64 (n := n) (by decide) l1 (by omega)) ?_
    exact f72 _ _ (by decide) (Or.inr (Or.inl w2))
  refine Ends.b1 (fun z => absurd rfl z) (fun _ => ?_)
  refine Ends.ct l1 (by decide +kernel) (by decide) (go _ _ F1.2.1.t.2.2.2.2) (fun v q4 l4 _ _ _ ⟨eh, w3⟩ => ?_)
  subst eh
  refine Ends.eq (b211_56 (n := n) (by decide) l1 (by omega)) ?_
  rcases w3 with ⟨w3, rfl⟩ | ⟨w3, rfl⟩
  · exact f72 _ _ (by decide) (Or.inr (Or.inr w3))
  refine Ends.ct l1 (by decide +kernel) (by decide) (go _ _ F1.2.1.t.2.2.2.1) (fun v q5 l5 _ _ _ ⟨eh, w5⟩ => ?_)
  subst eh
  refine Ends.eq (b211_75 (n := n) (by (repeat' first | assumption | refine LX.setF _ _ ?_ (by decide +kernel) | refine LX.setS ?_ rfl | refine LX.setA ?_ (by first | assumption | omega))) (by first | assumption | omega)) ?_
  rcases w5 with ⟨w5, rfl⟩ | ⟨w5, rfl⟩
  · exact absurd w5 w2
  refine Ends.b0 (fun _ => ?_) (fun z => absurd rfl z)
  refine Ends.eq (b211_84 (n := n) (by (repeat' first | assumption | refine LX.setF _ _ ?_ (by decide +kernel) | refine LX.setS ?_ rfl | refine LX.setA ?_ (by first | assumption | omega))) (by first | assumption | omega)) ?_
  refine Ends.ct l1 (by decide +kernel) (by decide) (go _ _ F1.2.1.t.2.2.2.2) (fun v q6 l6 _ _ _ ⟨eh, w6⟩ => ?_)
  subst eh
  refine Ends.eq (b211_93 (n := n) (by (repeat' first | assumption | refine LX.setF _ _ ?_ (by decide +kernel) | refine LX.setS ?_ rfl | refine LX.setA ?_ (by first | assumption | omega))) (by first | assumption | omega)) ?_
  rcases w6 with ⟨w6, rfl⟩ | ⟨w6, rfl⟩
  · exact absurd w6 w3
  refine Ends.b0 (fun _ => ?_) (fun z => absurd rfl z)
  refine Ends.eq (b211_108 (n := n) (by (repeat' first | assumption | refine LX.setF _ _ ?_ (by decide +kernel) | refine LX.setS ?_ rfl | refine LX.setA ?_ (by first | assumption | omega))) (by first | assumption | omega)) ?_
  refine Ends.b1 (fun _ => ?_) (fun z => absurd z (by decide))
  refine fin _ _ _ (tkT u m p) _ _ _ l1 G1 R1 q8 (by omega) (by omega) ?_
  unfold numD
  rw [itP_f w, itP_f w2, itP_f w3]; rfl
end FI
