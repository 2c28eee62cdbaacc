/-! L3: the model's edits of sketches: drag, line, sketch -/
noncomputable section MED2
variable {gv : Nat → Int} {B n d s w : Nat} {h h2 : AH} {Q : Nat → Nat} {al dn tt : Nat} {x1 x2 x3 x4 : Int}
theorem TS.st {c k : Nat} {v : Int} (T : TS h w) (hc : (c ≠ w + 5 ∧ c ≠ w + 7 ∧ c ≠ w + 12 ∧ c ≠ w + 13) ∨ ((c = w + 5 ∨ c = w + 12) ∧ (v = 0 ∨ v = 1)) ∨ ((c = w + 7 ∨ c = w + 13) ∧ FR0 h v)) : TS (hset h c k v) w := by
  obtain ⟨a, b, c', e⟩ := T
  have g : Agr (fun x y => x = c ∧ y = k) h (hset h c k v) := Agr.rf.set ⟨rfl, rfl⟩
  have rd : ∀ c2 k2, hv (hset h c k v) c2 k2 = if c2 = c ∧ k2 = k then v else hv h c2 k2 := fun c2 k2 => by
    by_cases z : c2 = c ∧ k2 = k
    · rw [if_pos z, z.1, z.2]; exact hv_set_at _ _ _ _
    · rw [if_neg z]; exact hv_set_ne z
  refine ⟨fun k' hk' => ?_, fun k' hk' => ?_, fun k' hk' => ?_, fun k' hk' => ?_⟩
  · rw [rd]
    by_cases z : w + 5 = c ∧ k' = k
    · rw [if_pos z]
      rcases hc with y | ⟨_, y⟩ | ⟨y, _⟩
      · omega
      · exact y
      · omega
    · rw [if_neg z]; exact a k' hk'
  · rw [rd]
    by_cases z : w + 12 = c ∧ k' = k
    · rw [if_pos z]
      rcases hc with y | ⟨_, y⟩ | ⟨y, _⟩
      · omega
      · exact y
      · omega
    · rw [if_neg z]; exact b k' hk'
  · rw [rd]
    by_cases z : w + 7 = c ∧ k' = k
    · rw [if_pos z]
      rcases hc with y | ⟨y, _⟩ | ⟨_, y⟩
      · omega
      · omega
      · exact y.agr g
    · rw [if_neg z]; exact (c' k' hk').agr g
  · rw [rd]
    by_cases z : w + 13 = c ∧ k' = k
    · rw [if_pos z]
      rcases hc with y | ⟨y, _⟩ | ⟨_, y⟩
      · omega
      · omega
      · exact y.agr g
    · rw [if_neg z]; exact (e k' hk').agr g
theorem q763_ok {q : Nat} {x y : Int} (n6 : hv h q 3 ≤ 6) : q763 q h x y := by
  unfold q763
  rw [v764_is, ct1, ct2]
  by_cases z : x < 0 ∨ hv h q 3 ≤ x
  · rw [if_pos z, if_neg (by decide)]; exact True.intro
  · rw [if_neg z, if_pos rfl]
    by_cases y0 : y < 0
    · rw [if_pos y0]; exact True.intro
    · rw [if_neg y0]; exact ⟨by omega, by omega⟩
/-- the edit of a sketch begins, ready to be closed -/
theorem c_edB0 (l2 : LX B n h2) (hd : 18 ≤ d) (lo : B + 246 ≤ Q dn) (M2 : MRg B h2 Q al dn tt) (g2 : Agr (fun c k => c = B + 149 ∧ k = 0) h h2) (z2 : hv h2 (B + 149) 0 = 0) (hdn : dn < 99) (hs : s < 6) (hs3 : (s : Int) < hv h (Q dn) 3) :
    Vt 2 (cll PP (ev PP (gsF gv) B) d 605 [(2, rf (B + 149)), (0, (s : Int))] h2) (fun x h3 => ∃ w, x = rf w ∧ YS B w h3 ∧ SkEq h (Q dn + (8 + 14 * s)) h3 w ∧ TS h3 w ∧ Ext (edW B Q al dn) 140 2977 h2 h3 ∧ ∀ (h' : AH) (P : AH → Nat → Prop), Agr (csW w) h3 h' → TS h' w → P h3 w → EdSk B h Q al dn s h' P) := by
  obtain ⟨x, h3, ec, Q', al', ex, l3, eE, e1, e3, e4, e5, e6, e7, ME⟩ := c_edited605 l2 hd M2 hdn hs
  have ME0 := ME
  obtain ⟨m16, m17, m18, m19, n1, n2, n3, n4, n5, n6⟩ := ME
  obtain ⟨i1, i2, i3, i4⟩ := n4 (dn + 1) n2
  have E := (e6.fr g2 lo)
  refine ⟨x, h3, ec, Q' (dn + 1) + (8 + 14 * s), ex, ?_, E.2.2.2.2.2.1 s hs hs3, i3.2.1 s hs, eE, fun h' P gs ts hp => ?_⟩
  · have := (i2.sk (i := (s : Int)) ⟨by omega, by omega⟩).1
    rw [tn] at this
    exact this
  · refine ⟨h3, Q', al', ?_, e1, e3, e4, fun z => by rw [e5 z, g2.nx], E, e7, ?_, ?_, hp⟩
    · exact (g2.ext.sub (W' := edV B Q al dn) (fun a k _ z => Or.inr z) (Nat.le_refl 0) (Nat.le_refl 0)).tr eE (fun a k _ z => Or.inl z)
    · rw [eE.at 0 (by have := l2.2.2; omega) (fun y => ed_no M2 y), z2]
    · exact ME0.put n2 gs (fun c k z => sk_dW hs z) (i3.sk hs gs ts)
theorem c_edB (l2 : LX B n h2) (hd : 18 ≤ d) (M : MRg B h Q al dn tt) (l : LX B n h) (e2 : h2 = hset h (B + 149) 0 0) (hdn : dn < 99) (hs : s < 6) (hs3 : (s : Int) < hv h (Q dn) 3) :
    Vt 2 (cll PP (ev PP (gsF gv) B) d 605 [(2, rf (B + 149)), (0, (s : Int))] h2) (fun x h3 => ∃ w, x = rf w ∧ YS B w h3 ∧ SkEq h (Q dn + (8 + 14 * s)) h3 w ∧ TS h3 w ∧ ∀ (h' : AH) (P : AH → Nat → Prop), Agr (csW w) h3 h' → TS h' w → P h3 w → EdSk B h Q al dn s h' P) := by
  have m4 := M.2.2.2.2.2.2.2.1 dn (by have := M.2.2.2.2.1; have := M.2.2.2.2.2.1; omega)
  obtain ⟨M2, g2⟩ := f0_edit l M h2 e2
  obtain ⟨x, h3, ec, w, a1, a2, a3, a4, _, a5⟩ := c_edB0 (h := h) l2 hd m4.2.1.lo M2 g2 (by rw [e2]; exact hv_set_at _ _ _ _) hdn hs hs3
  exact ⟨x, h3, ec, w, a1, a2, a3, a4, a5⟩
/-- the model's answer to an edit that gives nothing back -/
def AnV (B : Nat) (h : AH) (e : Int) (h' : AH) (P : Prop) : Prop := (e ≠ 0 ∧ h' = hset h (B + 149) 0 e) ∨ (e = 0 ∧ P)
theorem c_drag596 (l : LX B n h) (hd : 20 ≤ d) (M : MRg B h Q al dn tt) (hdn : dn < 99) (hp : ∀ s : Nat, (s : Int) < hv h (Q dn) 3 → 0 ≤ hv h (Q dn + (8 + 14 * s)) 2 ∧ hv h (Q dn + (8 + 14 * s)) 2 ≤ 12) :
    Vd (cll PP (ev PP (gsF gv) B) d 596 [(2, rf (B + 149)), (0, x1), (0, x2), (0, x3), (0, x4)] h) (fun h' => AnV B h (dgE_ (hv h (Q dn) 3) (hv h (Q dn + (8 + 14 * x1.toNat)) 2) x1 x2 x3 x4) h' (EdSk B h Q al dn x1.toNat h' (fun h3 w => h' = hset (hset h3 (w + 1) x2.toNat x3) (w + 2) x2.toNat x4))) := by
  have m4 := M.2.2.2.2.2.2.2.1 dn (by have := M.2.2.2.2.1; have := M.2.2.2.2.2.1; omega)
  have D := m4.2.1
  have T := m4.2.2.1
  have hq := M.2.2.2.1
  have n6 := T.2.2.2.2
  refine Vd.inq (D := 19) hd (Nat.le_of_ble_eq_true rfl) rfl (fun d hd R KR => ?_)
  obtain ⟨e, ee⟩ : ∃ e, e = dgE_ (hv h (Q dn) 3) (hv h (Q dn + (8 + 14 * x1.toNat)) 2) x1 x2 x3 x4 := ⟨_, rfl⟩
  rw [← ee] at KR
  have code : cond (tst 0 (v763 (Q dn) h x1 x2) 0) (cond (tst 1 (v690 x3) 0) (2 : Int) (cond (tst 0 (v690 x4) 0) (0 : Int) 2)) 1 = e := by
    rw [ee, v763_is, v690_is, v690_is]
    simp only [ct0, ct1]
    unfold dgE_
    by_cases z : (x1 < 0 ∨ hv h (Q dn) 3 ≤ x1) ∨ x2 < 0 ∨ hv h (Q dn + (8 + 14 * Int.toNat x1)) 2 ≤ x2
    · rw [if_pos z, if_pos z, if_neg (by decide)]
    · rw [if_neg z, if_neg z, if_pos rfl]
      by_cases y1 : farP x3
      · rw [if_pos y1, if_neg (by decide), if_pos (Or.inl y1)]
      · rw [if_neg y1, if_pos rfl]
        by_cases y2 : farP x4
        · rw [if_pos y2, if_neg (by decide), if_pos (Or.inr y2)]
        · rw [if_neg y2, if_pos rfl, if_neg (show ¬ (farP x3 ∨ farP x4) from fun u => u.elim y1 y2)]
  have ce : e = 0 ∨ 0 < e := by rw [ee]; unfold dgE_; split; omega; split <;> omega
  refine Ends.eq (b596_0 l (by omega) hq D) ?_
  rw [code]
  refine Ends.g (q763_ok n6) ?_
  refine Ends.ct l (by decide +kernel) (by decide) (c_fails l (by omega) (x := e)) (fun y h2 l2 _ _ _ ⟨ey, e2⟩ => ?_)
  refine Ends.eq (b596_37 l2 (by omega)) ?_
  rcases ce with z | z
  · rw [z, if_neg (by decide)] at ey
    rw [ey]
    have ok : ¬ ((x1 < 0 ∨ hv h (Q dn) 3 ≤ x1) ∨ x2 < 0 ∨ hv h (Q dn + (8 + 14 * x1.toNat)) 2 ≤ x2) := fun y => by
      rw [ee] at z
      unfold dgE_ at z
      rw [if_pos y] at z; omega
    obtain ⟨s, es⟩ : ∃ s : Nat, x1 = (s : Int) := ⟨x1.toNat, by omega⟩
    rw [es, tn] at ok KR
    have hs : s < 6 := by omega
    have pb := hp s (by omega)
    refine Ends.b0 (fun _ => ?_) (fun y => absurd rfl y)
    rw [es]
    refine Ends.ct l2 (by decide +kernel) (by decide) (c_edB l2 (by omega) M l (by rw [e2, z]) hdn hs (by omega)) (fun x h3 l3 _ _ _ ⟨w, ex, Sw, _, ts, fin⟩ => ?_)
    rw [ex]
    refine Ends.eq (b596_46 l3 (by omega) Sw) ?_
    rw [an0, an0]
    exact Ends.g ⟨by omega, by omega⟩ (Ends.sm (KR _ (Or.inr ⟨z, fin _ _ ((Agr.rf.set (Or.inr ⟨by omega, by omega⟩)).set (Or.inr ⟨by omega, by omega⟩)) ((ts.st (Or.inl (by omega))).st (Or.inl (by omega))) rfl⟩)))
  · rw [if_pos z] at ey
    rw [ey]
    exact Ends.b0 (fun y => absurd y (by decide)) (fun _ => Ends.sm (KR _ (Or.inl ⟨by omega, e2⟩)))
theorem c_line731 (l : LX B n h) (hd : 20 ≤ d) (M : MRg B h Q al dn tt) (hdn : dn < 99) (hp : ∀ s : Nat, (s : Int) < hv h (Q dn) 3 → (0 ≤ hv h (Q dn + (8 + 14 * s)) 2 ∧ hv h (Q dn + (8 + 14 * s)) 2 ≤ 12) ∧ 0 ≤ hv h (Q dn + (8 + 14 * s)) 3 ∧ hv h (Q dn + (8 + 14 * s)) 3 ≤ 24) :
    Vt 0 (cll PP (ev PP (gsF gv) B) d 731 [(2, rf (B + 149)), (0, x1), (0, x2), (0, x3)] h) (fun x h' => AnM B h (lnE (hv h (Q dn) 3) (hv h (Q dn + (8 + 14 * x1.toNat)) 2) (hv h (Q dn + (8 + 14 * x1.toNat)) 3) x1 x2 x3) x h' (x = hv h (Q dn + (8 + 14 * x1.toNat)) 3 ∧ EdSk B h Q al dn x1.toNat h' (fun h3 w => h' = hset (hset (hset (hset h3 (w + 3) (hv h (Q dn + (8 + 14 * x1.toNat)) 3).toNat x2) (w + 4) (hv h (Q dn + (8 + 14 * x1.toNat)) 3).toNat x3) (w + 5) (hv h (Q dn + (8 + 14 * x1.toNat)) 3).toNat 1) w 3 (hv h (Q dn + (8 + 14 * x1.toNat)) 3 + 1)))) := by
  have m4 := M.2.2.2.2.2.2.2.1 dn (by have := M.2.2.2.2.1; have := M.2.2.2.2.2.1; omega)
  have D := m4.2.1
  have T := m4.2.2.1
  have hq := M.2.2.2.1
  have n6 := T.2.2.2.2
  refine Vt.inq (D := 19) hd (Nat.le_of_ble_eq_true rfl) rfl (fun d hd R KR => ?_)
  obtain ⟨e, ee⟩ : ∃ e, e = lnE (hv h (Q dn) 3) (hv h (Q dn + (8 + 14 * x1.toNat)) 2) (hv h (Q dn + (8 + 14 * x1.toNat)) 3) x1 x2 x3 := ⟨_, rfl⟩
  rw [← ee] at KR
  have code : cond (tst 1 (v763 (Q dn) h x1 x2) 0) (1 : Int) (cond (tst 0 (v763 (Q dn) h x1 x3) 0) (cond (tst 1 x2 x3) (cond (tst 1 (hv h (Q dn + (8 + 14 * Int.toNat x1)) 3) 24) (0 : Int) 3) 2) 1) = e := by
    rw [ee, v763_is, v763_is]
    simp only [ct0, ct1]
    unfold lnE
    by_cases z : (x1 < 0 ∨ hv h (Q dn) 3 ≤ x1) ∨ x2 < 0 ∨ hv h (Q dn + (8 + 14 * Int.toNat x1)) 2 ≤ x2
    · rw [if_pos z, if_neg (by decide), if_pos (Or.inl z)]
    · rw [if_neg z, if_pos rfl]
      by_cases y : x3 < 0 ∨ hv h (Q dn + (8 + 14 * Int.toNat x1)) 2 ≤ x3
      · rw [if_pos (Or.inr y), if_neg (by decide), if_pos (Or.inr y)]
      · rw [if_neg (show ¬ ((x1 < 0 ∨ hv h (Q dn) 3 ≤ x1) ∨ x3 < 0 ∨ hv h (Q dn + (8 + 14 * Int.toNat x1)) 2 ≤ x3) from fun u => u.elim (fun v => z (Or.inl v)) y), if_pos rfl, if_neg (show ¬ (((x1 < 0 ∨ hv h (Q dn) 3 ≤ x1) ∨ x2 < 0 ∨ hv h (Q dn + (8 + 14 * Int.toNat x1)) 2 ≤ x2) ∨ x3 < 0 ∨ hv h (Q dn + (8 + 14 * Int.toNat x1)) 2 ≤ x3) from fun u => u.elim z y)]
  have ce : e = 0 ∨ 0 < e := by rw [ee]; unfold lnE; split; omega; split; omega; split <;> omega
  have i1 : cond (tst 1 (v763 (Q dn) h x1 x2) 0) True ((q763 (Q dn) h x1 x3) ∧ (cond (tst 0 (v763 (Q dn) h x1 x3) 0) (cond (tst 1 x2 x3) (0 ≤ x1 ∧ x1 < ((6 : Nat) : Int)) True) True)) := by
    rw [v763_is, v763_is, ct1, ct0, ct1]
    by_cases z : (x1 < 0 ∨ hv h (Q dn) 3 ≤ x1) ∨ x2 < 0 ∨ hv h (Q dn + (8 + 14 * Int.toNat x1)) 2 ≤ x2
    · rw [if_pos z, if_neg (by decide)]; exact True.intro
    · rw [if_neg z, if_pos rfl]
      refine ⟨q763_ok n6, ?_⟩
      have b6 : 0 ≤ x1 ∧ x1 < ((6 : Nat) : Int) := ⟨by omega, by omega⟩
      (repeat' split) <;> first | exact True.intro | exact b6 | (exfalso; omega)
  refine Ends.eq (b731_0 l (by omega) hq D) ?_
  rw [code]
  refine Ends.g (q763_ok n6) (Ends.g i1 ?_)
  refine Ends.ct l (by decide +kernel) (by decide) (c_fails l (by omega) (x := e)) (fun y h2 l2 _ _ _ ⟨ey, e2⟩ => ?_)
  refine Ends.eq (b731_57 l2 (by omega)) ?_
  rcases ce with z | z
  · rw [z, if_neg (by decide)] at ey
    rw [ey]
    have ok : ¬ (((x1 < 0 ∨ hv h (Q dn) 3 ≤ x1) ∨ x2 < 0 ∨ hv h (Q dn + (8 + 14 * x1.toNat)) 2 ≤ x2) ∨ x3 < 0 ∨ hv h (Q dn + (8 + 14 * x1.toNat)) 2 ≤ x3) ∧ hv h (Q dn + (8 + 14 * x1.toNat)) 3 ≠ 24 := by
      rw [ee] at z
      unfold lnE at z
      constructor
      · intro y; rw [if_pos y] at z; omega
      · intro y
        rw [if_pos y] at z
        split at z
        · omega
        · split at z <;> omega
    obtain ⟨s, es⟩ : ∃ s : Nat, x1 = (s : Int) := ⟨x1.toNat, by omega⟩
    rw [es, tn] at ok KR
    have hs : s < 6 := by omega
    have pb := hp s (by omega)
    refine Ends.b0 (fun _ => ?_) (fun y => absurd rfl y)
    rw [es]
    refine Ends.ct l2 (by decide +kernel) (by decide) (c_edB l2 (by omega) M l (by rw [e2, z]) hdn hs (by omega)) (fun x h3 l3 _ _ _ ⟨w, ex, Sw, E, ts, fin⟩ => ?_)
    rw [ex]
    have nl_ : hv h3 w 3 = hv h (Q dn + (8 + 14 * s)) 3 := E.1 3 (by decide)
    obtain ⟨nl, enl⟩ : ∃ nl : Nat, hv h (Q dn + (8 + 14 * s)) 3 = (nl : Int) := ⟨(hv h (Q dn + (8 + 14 * s)) 3).toNat, by omega⟩
    rw [enl] at nl_ ok KR pb
    refine Ends.eq (b731_67 l3 (by omega) Sw) ?_
    rw [nl_, tn, an0, an0, an3 (Or.inr rfl), show bop32 96 (nl : Int) 1 = ((nl + 1 : Nat) : Int) from addNN (y := 1) (by omega)]
    refine Ends.g ⟨by omega, by omega⟩ (Ends.sm (KR _ _ (Or.inr ⟨z, ?_, fin _ _ ((((Agr.rf.set (Or.inr ⟨by omega, by omega⟩)).set (Or.inr ⟨by omega, by omega⟩)).set (Or.inr ⟨by omega, by omega⟩)).set (Or.inl ⟨rfl, by decide⟩)) ((((ts.st (Or.inl (by omega))).st (Or.inl (by omega))).st (Or.inr (Or.inl ⟨Or.inl rfl, Or.inr rfl⟩))).st (Or.inl (by omega))) rfl⟩)))
    rw [show bop32 100 ((nl + 1 : Nat) : Int) 1 = ((nl + 1 - 1 : Nat) : Int) from subNN (y := 1) (by omega) (by omega)]
    congr 1
  · rw [if_pos z] at ey
    rw [ey]
    exact Ends.b0 (fun y => absurd y (by decide)) (fun _ => Ends.sm (KR _ _ (Or.inl ⟨by omega, rfl, e2⟩)))
end MED2
