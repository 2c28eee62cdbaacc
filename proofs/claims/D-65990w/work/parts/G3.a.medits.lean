/-! L3: the model's edits of sketches: sketch, point, drag, line -/
noncomputable section MED
variable {gv : Nat → Int} {B n d s : Nat} {h : AH} {Q : Nat → Nat} {al dn tt : Nat} {x1 x2 x3 x4 : Int}
theorem TS.off {t : AH} {w : Nat} {W : Nat → Nat → Prop} (T : TS h w) (g : Agr W h t) (hW : ∀ c k, W c k → c ≠ w + 5 ∧ c ≠ w + 7 ∧ c ≠ w + 12 ∧ c ≠ w + 13) : TS t w := by
  obtain ⟨a, b, c, e⟩ := T
  refine ⟨fun k hk => ?_, fun k hk => ?_, fun k hk => ?_, fun k hk => ?_⟩
  · rw [g.at _ _ (fun z => (hW _ _ z).1 rfl)]; exact a k hk
  · rw [g.at _ _ (fun z => (hW _ _ z).2.2.1 rfl)]; exact b k hk
  · rw [g.at _ _ (fun z => (hW _ _ z).2.1 rfl)]; exact (c k hk).agr g
  · rw [g.at _ _ (fun z => (hW _ _ z).2.2.2 rfl)]; exact (e k hk).agr g
theorem TF.off {t : AH} {w : Nat} {W : Nat → Nat → Prop} (T : TF h w) (g : Agr W h t) (hW : ∀ c k, W c k → c ≠ w ∧ c ≠ w + 1) : TF t w := by
  obtain ⟨a, b, c⟩ := T
  refine ⟨?_, ?_, fun k hk => ?_⟩
  · rw [g.at _ _ (fun z => (hW _ _ z).1 rfl)]; exact a
  · rw [g.at _ _ (fun z => (hW _ _ z).1 rfl)]; exact b
  · rw [g.at _ _ (fun z => (hW _ _ z).2 rfl)]; exact (c k hk).agr g
theorem TD.sk {q : Nat} {t : AH} (T : TD h q) (hs : s < 6) (g : Agr (csW (q + (8 + 14 * s))) h t) (TS' : TS t (q + (8 + 14 * s))) : TD t q := by
  obtain ⟨T1, T2, T3, T4, T5⟩ := T
  have out : ∀ c k, c < q + (8 + 14 * s) ∨ q + (8 + 14 * s) + 13 < c → hv t c k = hv h c k := fun c k hj => g.at _ _ (fun z => by unfold csW at z; omega)
  refine ⟨fun j hj => by rw [out _ _ (by omega)]; exact (T1 j hj).agr g, fun s' hs' => ?_, fun f hf => (T3 f hf).off g (fun c k z => by unfold csW at z; omega), by rw [out _ _ (by omega)]; exact T4, by rw [out _ _ (by omega)]; exact T5⟩
  by_cases e : s' = s
  · rw [e]; exact TS'
  · exact (T2 s' hs').off g (fun c k z => by unfold csW at z; omega)
/-- what an edit of a sketch comes to: from h3 on the sketch's own cells are written -/
def edV (B : Nat) (Q : Nat → Nat) (al dn : Nat) : Nat → Nat → Prop := fun c k => edW B Q al dn c k ∨ (c = B + 149 ∧ k = 0)
def EdSk (B : Nat) (h : AH) (Q : Nat → Nat) (al dn s : Nat) (h' : AH) (P : AH → Nat → Prop) : Prop := ∃ h3 Q' al', Ext (edV B Q al dn) 140 2977 h h3 ∧ (∀ i, i < al → Q' i = Q i) ∧ al ≤ al' ∧ (dn + 1 < al → al' = al) ∧ (al ≤ dn + 1 → Q' (dn + 1) = hnx h) ∧ DsEq h (Q dn) h3 (Q' (dn + 1)) ∧ (∀ k, k < 40 → hv h3 (B + 154) k = 0) ∧ hv h3 (B + 149) 0 = 0 ∧ MRg B h' Q' al' (dn + 1) (dn + 1) ∧ P h3 (Q' (dn + 1) + (8 + 14 * s))
/-- the edit begins -/
theorem c_edited605 (l : LX B n h) (hd : 18 ≤ d) (M : MRg B h Q al dn tt) (hdn : dn < 99) (hs : s < 6) :
    Vt 2 (cll PP (ev PP (gsF gv) B) d 605 [(2, rf (B + 149)), (0, (s : Int))] h) (fun x h3 => ∃ Q' al', x = rf (Q' (dn + 1) + (8 + 14 * s)) ∧ LX B n h3 ∧ Ext (edW B Q al dn) 140 2977 h h3 ∧ (∀ i, i < al → Q' i = Q i) ∧ al ≤ al' ∧ (dn + 1 < al → al' = al) ∧ (al ≤ dn + 1 → Q' (dn + 1) = hnx h) ∧ DsEq h (Q dn) h3 (Q' (dn + 1)) ∧ (∀ k, k < 40 → hv h3 (B + 154) k = 0) ∧ MRg B h3 Q' al' (dn + 1) (dn + 1)) := by
  refine Vt.inq (D := 17) hd (Nat.le_of_ble_eq_true rfl) rfl (fun d hd R KR => ?_)
  refine Ends.eq (b605_0 l (by omega)) ?_
  refine Ends.cv l (by decide +kernel) (c_edit l (by omega) M hdn) (fun h3 l3 _ _ _ ⟨Q', al', e1, ME, e3, e4, e5, e6, e7, eE⟩ => ?_)
  have ME0 := ME
  obtain ⟨m16, m17, m18, m19, n1, n2, n3, n4, n5, n6⟩ := ME
  obtain ⟨i1, i2, i3, i4⟩ := n4 (dn + 1) n2
  refine Ends.eq (b605_4 l3 (by omega) m19 i2) ?_
  rw [tn]
  exact Ends.g ⟨by omega, by omega⟩ (Ends.sm (KR _ _ ⟨Q', al', rfl, l3, eE, e1, e3, e4, e5, e6, e7, ME0⟩))
/-- too far -/
abbrev farP (x : Int) : Prop := x < -200 ∨ 200 < x
theorem v690_is {x : Int} : v690 x = if farP x then 1 else 0 := by
  unfold v690
  rw [ct2, ct5]
  by_cases z : x < -200
  · rw [if_pos z, if_pos (Or.inl z)]
  · rw [if_neg z]
    by_cases y : 200 < x
    · rw [if_pos y, if_pos (Or.inr y)]
    · rw [if_neg y, if_neg (fun u => u.elim z y)]
theorem v764_is {q : Nat} {x : Int} : v764 q h x = if x < 0 ∨ hv h q 3 ≤ x then 1 else 0 := by
  unfold v764
  rw [ct2, ct2]
  by_cases z : x < 0
  · rw [if_pos z, if_pos (Or.inl z)]
  · rw [if_neg z]
    by_cases y : x < hv h q 3
    · rw [if_pos y, if_neg (by omega)]
    · rw [if_neg y, if_pos (by omega)]
theorem v763_is {q : Nat} {x y : Int} : v763 q h x y = if (x < 0 ∨ hv h q 3 ≤ x) ∨ y < 0 ∨ hv h (q + (8 + 14 * Int.toNat x)) 2 ≤ y then 1 else 0 := by
  unfold v763
  rw [v764_is, ct1, ct2, ct2]
  by_cases z : x < 0 ∨ hv h q 3 ≤ x
  · rw [if_pos z, if_neg (by decide), if_pos (Or.inl z)]
  · rw [if_neg z, if_pos rfl]
    by_cases y1 : y < 0
    · rw [if_pos y1, if_pos (Or.inr (Or.inl y1))]
    · rw [if_neg y1]
      by_cases y2 : y < hv h (q + (8 + 14 * Int.toNat x)) 2
      · rw [if_pos y2, if_neg (by omega)]
      · rw [if_neg y2, if_pos (by omega)]
/-- the model's answer to an edit: a code, or the edit done -/
def AnM (B : Nat) (h : AH) (e x : Int) (h' : AH) (P : Prop) : Prop := (e ≠ 0 ∧ x = 0 ∧ h' = hset h (B + 149) 0 e) ∨ (e = 0 ∧ P)
/-- codes -/
def ptE (ns np s u v : Int) : Int := if s < 0 ∨ ns ≤ s then 1 else if farP u ∨ farP v then 2 else if np = 12 then 3 else 0
def dgE_ (ns np s p u v : Int) : Int := if (s < 0 ∨ ns ≤ s) ∨ p < 0 ∨ np ≤ p then 1 else if farP u ∨ farP v then 2 else 0
def lnE (ns np nl s p q : Int) : Int := if ((s < 0 ∨ ns ≤ s) ∨ p < 0 ∨ np ≤ p) ∨ q < 0 ∨ np ≤ q then 1 else if p = q then 2 else if nl = 24 then 3 else 0
theorem f0_edit (l : LX B n h) (M : MRg B h Q al dn tt) : ∀ q, q = hset h (B + 149) 0 0 → MRg B q Q al dn tt ∧ Agr (fun c k => c = B + 149 ∧ k = 0) h q := fun q e => by
  have g : Agr (fun c k => c = B + 149 ∧ k = 0) h q := by rw [e]; exact Agr.rf.set ⟨rfl, rfl⟩
  exact ⟨M.ext l g.ext (fun c k hc w => by omega), g⟩
theorem DsEq.fr {a b : Nat} {q t : AH} (E : DsEq q a t b) (g : Agr (fun c k => c = B + 149 ∧ k = 0) h q) (ha : B + 246 ≤ a) : DsEq h a t b := E.mv (fun _ _ _ => rfl) (fun j k _ => g.at _ _ (by omega))
theorem ed_no (M : MRg B h Q al dn tt) : ¬ edW B Q al dn (B + 149) 0 := fun z => by
  unfold edW at z
  rcases z with ⟨-, a, -⟩ | ⟨a, -⟩ | a | ⟨a, b⟩
  · omega
  · omega
  · omega
  · have := (M.2.2.2.2.2.2.2.1 (dn + 1) a).2.1.lo
    have := b.1
    omega
set_option maxHeartbeats 1000000 in
theorem c_point780 (l : LX B n h) (hd : 20 ≤ d) (M : MRg B h Q al dn tt) (hdn : dn < 99) (hp : ∀ s : Nat, (s : Int) < hv h (Q dn) 3 → 0 ≤ hv h (Q dn + (8 + 14 * s)) 2 ∧ hv h (Q dn + (8 + 14 * s)) 2 ≤ 12) :
    Vt 0 (cll PP (ev PP (gsF gv) B) d 780 [(2, rf (B + 149)), (0, x1), (0, x2), (0, x3)] h) (fun x h' => AnM B h (ptE (hv h (Q dn) 3) (hv h (Q dn + (8 + 14 * x1.toNat)) 2) x1 x2 x3) x h' (x = hv h (Q dn + (8 + 14 * x1.toNat)) 2 ∧ EdSk B h Q al dn x1.toNat h' (fun h3 w => h' = hset (hset (hset h3 (w + 1) (hv h (Q dn + (8 + 14 * x1.toNat)) 2).toNat x2) (w + 2) (hv h (Q dn + (8 + 14 * x1.toNat)) 2).toNat x3) w 2 (hv h (Q dn + (8 + 14 * x1.toNat)) 2 + 1)))) := by
  have m4 := M.2.2.2.2.2.2.2.1 dn (by have := M.2.2.2.2.1; have := M.2.2.2.2.2.1; omega)
  have D := m4.2.1
  have T := m4.2.2.1
  have hq := M.2.2.2.1
  have lo := D.lo
  have n6 := T.2.2.2.2
  refine Vt.inq (D := 19) hd (Nat.le_of_ble_eq_true rfl) rfl (fun d hd R KR => ?_)
  obtain ⟨e, ee⟩ : ∃ e, e = ptE (hv h (Q dn) 3) (hv h (Q dn + (8 + 14 * x1.toNat)) 2) x1 x2 x3 := ⟨_, rfl⟩
  rw [← ee] at KR
  have code : cond (tst 0 (v764 (Q dn) h x1) 0) (cond (tst 1 (v690 x2) 0) (2 : Int) (cond (tst 0 (v690 x3) 0) (cond (tst 1 (hv h (Q dn + (8 + 14 * x1.toNat)) 2) 12) (0 : Int) 3) 2)) 1 = e := by
    rw [ee, v764_is, v690_is, v690_is]
    simp only [ct0, ct1]
    unfold ptE
    by_cases z : x1 < 0 ∨ hv h (Q dn) 3 ≤ x1
    · rw [if_pos z, if_pos z, if_neg (by decide)]
    · rw [if_neg z, if_neg z, if_pos rfl]
      by_cases y1 : farP x2
      · rw [if_pos y1, if_neg (by decide), if_pos (Or.inl y1)]
      · rw [if_neg y1, if_pos rfl]
        by_cases y2 : farP x3
        · rw [if_pos y2, if_neg (by decide), if_pos (Or.inr y2)]
        · rw [if_neg y2, if_pos rfl, if_neg (show ¬ (farP x2 ∨ farP x3) from fun u => u.elim y1 y2)]
  have ce : e = 0 ∨ 0 < e := by rw [ee]; unfold ptE; split; omega; split; omega; split <;> omega
  refine Ends.eq (b780_0 l (by omega) hq D) ?_
  rw [code]
  refine Ends.g ?_ ?_
  · rw [v764_is]
    simp only [ct0, ct1]
    by_cases z : x1 < 0 ∨ hv h (Q dn) 3 ≤ x1
    · rw [if_pos z, if_neg (by decide)]; trivial
    · rw [if_neg z, if_pos rfl]
      split
      · split
        · exact ⟨by omega, by omega⟩
        · trivial
      · trivial
  refine Ends.ct l (by decide +kernel) (by decide) (c_fails l (by omega) (x := e)) (fun y h2 l2 _ _ _ ⟨ey, e2⟩ => ?_)
  refine Ends.eq (b780_56 l2 (by omega)) ?_
  rcases ce with z | z
  · rw [z, if_neg (by decide)] at ey
    rw [ey]
    obtain ⟨M2, g2⟩ := f0_edit l M h2 (by rw [e2, z])
    have ok : ¬ (x1 < 0 ∨ hv h (Q dn) 3 ≤ x1) ∧ hv h (Q dn + (8 + 14 * x1.toNat)) 2 ≠ 12 := by
      rw [ee] at z
      unfold ptE at z
      constructor
      · intro y; rw [if_pos y] at z; omega
      · intro y
        rw [if_pos y] at z
        split at z
        · omega
        · split at z <;> omega
    obtain ⟨s, es⟩ : ∃ s : Nat, x1 = (s : Int) := ⟨x1.toNat, by omega⟩
    rw [es, tn] at ok KR
    have hs : s < 6 := by omega
    have pb := hp s (by omega)
    refine Ends.b0 (fun _ => ?_) (fun y => absurd rfl y)
    rw [es]
    refine Ends.ct l2 (by decide +kernel) (by decide) (c_edited605 l2 (by omega) M2 hdn hs) (fun x h3 l3 _ _ _ ⟨Q', al', ex, _, eE, e1, e3, e4, e5, e6, e7, ME⟩ => ?_)
    rw [ex]
    have ME0 := ME
    obtain ⟨m16, m17, m18, m19, n1, n2, n3, n4, n5, n6'⟩ := ME
    obtain ⟨i1, i2, i3, i4⟩ := n4 (dn + 1) n2
    have lo' := i2.lo
    obtain ⟨w, ew⟩ : ∃ w, w = Q' (dn + 1) + (8 + 14 * s) := ⟨_, rfl⟩
    have Sw : YS B w h3 := by
      have := (i2.sk (i := (s : Int)) ⟨by omega, by omega⟩).1
      rw [tn] at this
      rw [ew]; exact this
    have E := (e6.fr g2 lo)
    have np_ : hv h3 w 2 = hv h (Q dn + (8 + 14 * s)) 2 := by rw [ew]; exact (E.2.2.2.2.2.1 s hs (by omega)).1 2 (by decide)
    obtain ⟨np, enp⟩ : ∃ np : Nat, hv h (Q dn + (8 + 14 * s)) 2 = (np : Int) := ⟨(hv h (Q dn + (8 + 14 * s)) 2).toNat, by omega⟩
    rw [enp] at np_ ok KR
    have np12 : np < 12 := by omega
    rw [← ew]
    refine Ends.eq (b780_66 l3 (by omega) Sw) ?_
    rw [np_, tn, an0, an0]
    rw [show bop32 96 (np : Int) 1 = ((np + 1 : Nat) : Int) from addNN (y := 1) (by omega)]
    have gs : Agr (csW w) h3 (hset (hset (hset h3 (w + 1) np x2) (w + 2) np x3) w 2 ((np + 1 : Nat) : Int)) := ((Agr.rf.set (Or.inr ⟨by omega, by omega⟩)).set (Or.inr ⟨by omega, by omega⟩)).set (Or.inl ⟨rfl, by decide⟩)
    have gs2 : Agr (fun c k => c = w + 1 ∨ c = w + 2 ∨ (c = w ∧ k = 2)) h3 (hset (hset (hset h3 (w + 1) np x2) (w + 2) np x3) w 2 ((np + 1 : Nat) : Int)) := ((Agr.rf.set (Or.inl rfl)).set (Or.inr (Or.inl rfl))).set (Or.inr (Or.inr ⟨rfl, rfl⟩))
    have T' : TD (hset (hset (hset h3 (w + 1) np x2) (w + 2) np x3) w 2 ((np + 1 : Nat) : Int)) (Q' (dn + 1)) := i3.sk hs (by rw [← ew]; exact gs) (by rw [← ew]; exact (by rw [ew]; exact i3.2.1 s hs : TS h3 w).off gs2 (fun c k z => by omega))
    refine Ends.g ⟨by omega, by omega⟩ (Ends.sm (KR _ _ (Or.inr ⟨z, ?_, h3, Q', al', ?_, e1, e3, e4, fun z => by rw [e5 z, g2.nx], E, e7, ?_, ?_, ?_⟩)))
    · rw [show bop32 100 ((np + 1 : Nat) : Int) 1 = ((np + 1 - 1 : Nat) : Int) from subNN (y := 1) (by omega) (by omega)]
      congr 1
    · exact (g2.ext.sub (W' := edV B Q al dn) (fun a k _ z => Or.inr z) (Nat.le_refl 0) (Nat.le_refl 0)).tr eE (fun a k _ z => Or.inl z)
    · rw [eE.at 0 (by have := l2.2.2; omega) (fun y => ed_no M2 y), e2, z, hv_set_at]
    · exact ME0.put n2 gs (fun c k z => by rw [ew] at z; exact sk_dW hs z) T'
    · rw [← ew]; rfl
  · rw [if_pos z] at ey
    rw [ey]
    exact Ends.b0 (fun y => absurd y (by decide)) (fun _ => Ends.sm (KR _ _ (Or.inl ⟨by omega, rfl, e2⟩)))
end MED
