/-! L3: the model's edits of sketches: sketch, drop -/
noncomputable section MED3
variable {gv : Nat → Int} {B n d s w : Nat} {h h2 : AH} {Q : Nat → Nat} {al dn tt : Nat} {x1 x2 x3 x4 : Int}
/-- what an edit of the design comes to: from h3 on P tells what is written -/
def EdQ (B : Nat) (h : AH) (Q : Nat → Nat) (al dn : Nat) (h' : AH) (P : AH → Nat → Prop) : Prop := ∃ h3 Q' al', Ext (edV B Q al dn) 140 2977 h h3 ∧ (∀ i, i < al → Q' i = Q i) ∧ al ≤ al' ∧ (dn + 1 < al → al' = al) ∧ (al ≤ dn + 1 → Q' (dn + 1) = hnx h) ∧ DsEq h (Q dn) h3 (Q' (dn + 1)) ∧ (∀ k, k < 40 → hv h3 (B + 154) k = 0) ∧ hv h3 (B + 149) 0 = 0 ∧ MRg B h' Q' al' (dn + 1) (dn + 1) ∧ P h3 (Q' (dn + 1))
/-- the edit begins, ready to be closed -/
theorem c_edQ (l2 : LX B n h2) (hd : 16 ≤ d) (M : MRg B h Q al dn tt) (l : LX B n h) (e2 : h2 = hset h (B + 149) 0 0) (hdn : dn < 99) :
    Vd (cll PP (ev PP (gsF gv) B) d 603 [(2, rf (B + 149))] h2) (fun h3 => ∃ q, hv h3 (B + 149) 19 = rf q ∧ YD B q h3 ∧ TD h3 q ∧ DsEq h (Q dn) h3 q ∧ B + 246 ≤ q ∧ q + 140 ≤ hnx h3 ∧ ∀ (h' : AH) (P : AH → Nat → Prop) (W : Nat → Nat → Prop), Agr W h3 h' → (∀ c k, W c k → dW q c k) → TD h' q → P h3 q → EdQ B h Q al dn h' P) := by
  have m4 := M.2.2.2.2.2.2.2.1 dn (by have := M.2.2.2.2.1; have := M.2.2.2.2.2.1; omega)
  have lo := m4.2.1.lo
  obtain ⟨M2, g2⟩ := f0_edit l M h2 e2
  obtain ⟨h3, ec, Q', al', e1, ME, e3, e4, e5, e6, e7, eE⟩ := c_edit l2 hd M2 hdn
  have ME0 := ME
  obtain ⟨m16, m17, m18, m19, n1, n2, n3, n4, n5, n6⟩ := ME
  obtain ⟨i1, i2, i3, i4⟩ := n4 (dn + 1) n2
  refine ⟨h3, ec, Q' (dn + 1), m19, i2, i3, e6.fr g2 lo, i2.lo, i4, fun h' P W gs hW td hp => ?_⟩
  refine ⟨h3, Q', al', ?_, e1, e3, e4, fun z => by rw [e5 z, g2.nx], e6.fr g2 lo, e7, ?_, ME0.put n2 gs hW td, hp⟩
  · exact (g2.ext.sub (W' := edV B Q al dn) (fun a k _ z => Or.inr z) (Nat.le_refl 0) (Nat.le_refl 0)).tr eE (fun a k _ z => Or.inl z)
  · rw [eE.at 0 (by have := l2.2.2; omega) (fun y => ed_no M2 y), e2, hv_set_at]
def skE (n : Nat) (ns a o : Int) : Int := if a < 0 ∨ 2 < a ∨ o < 0 ∨ (n : Int) < o then 1 else if ns = 6 then 2 else 0
/-- a sketch emptied -/
def clSk (h : AH) (w : Nat) : AH := hset (hset (hset (hset h w 2 0) w 3 0) w 4 0) w 5 0
theorem c_clear876 (l : LX B n h) (hd : 10 ≤ d) (S : YS B w h) : Vd (cll PP (ev PP (gsF gv) B) d 876 [(2, rf w)] h) (fun h' => h' = clSk h w) := by
  refine Vd.inq (D := 9) hd (Nat.le_of_ble_eq_true rfl) rfl (fun d hd R KR => ?_)
  exact Ends.eq (b876_0 l (by omega) S) (Ends.sm (KR _ rfl))
theorem c_sketch833 (l : LX B n h) (hd : 20 ≤ d) (M : MRg B h Q al dn tt) (hdn : dn < 99) :
    Vt 0 (cll PP (ev PP (gsF gv) B) d 833 [(2, rf (B + 149)), (0, x1), (0, x2)] h) (fun x h' => AnM B h (skE n (hv h (Q dn) 3) x1 x2) x h' (x = hv h (Q dn) 3 ∧ EdQ B h Q al dn h' (fun h3 q => h' = hset (hset (hset (clSk h3 (q + (8 + 14 * (hv h (Q dn) 3).toNat))) (q + (8 + 14 * (hv h (Q dn) 3).toNat)) 0 x1) (q + (8 + 14 * (hv h (Q dn) 3).toNat)) 1 x2) q 3 (hv h (Q dn) 3 + 1)))) := by
  have m4 := M.2.2.2.2.2.2.2.1 dn (by have := M.2.2.2.2.1; have := M.2.2.2.2.2.1; omega)
  have D := m4.2.1
  have T := m4.2.2.1
  have hq := M.2.2.2.1
  have n6 := T.2.2.2.2
  have n0 := T.2.2.2.1
  refine Vt.inq (D := 19) hd (Nat.le_of_ble_eq_true rfl) rfl (fun d hd R KR => ?_)
  obtain ⟨ns, ens⟩ : ∃ ns : Nat, hv h (Q dn) 3 = (ns : Int) := ⟨(hv h (Q dn) 3).toNat, by omega⟩
  rw [ens, tn] at KR
  obtain ⟨e, ee⟩ : ∃ e, e = skE n (ns : Int) x1 x2 := ⟨_, rfl⟩
  rw [← ee] at KR
  have code : cond (tst 2 x1 0) (1 : Int) (cond (tst 4 x1 2) 1 (cond (tst 2 x2 0) 1 (cond (tst 5 x2 ((n : Nat) : Int)) (cond (tst 1 (hv h (Q dn) 3) 6) (0 : Int) 2) 1))) = e := by
    rw [ee, ens, ct2, ct4, ct2, ct5, ct1]
    unfold skE
    by_cases z1 : x1 < 0
    · rw [if_pos z1, if_pos (Or.inl z1)]
    · rw [if_neg z1]
      by_cases z2 : 2 < x1
      · rw [if_pos z2, if_pos (Or.inr (Or.inl z2))]
      · rw [if_neg z2]
        by_cases z3 : x2 < 0
        · rw [if_pos z3, if_pos (Or.inr (Or.inr (Or.inl z3)))]
        · rw [if_neg z3]
          by_cases z4 : (n : Int) < x2
          · rw [if_pos z4, if_pos (Or.inr (Or.inr (Or.inr z4)))]
          · rw [if_neg z4, if_neg (show ¬ (x1 < 0 ∨ 2 < x1 ∨ x2 < 0 ∨ (n : Int) < x2) by omega)]
  have ce : e = 0 ∨ 0 < e := by rw [ee]; unfold skE; split; omega; split <;> omega
  refine Ends.eq (b833_0 l (by omega) hq D) ?_
  rw [code]
  refine Ends.ct l (by decide +kernel) (by decide) (c_fails l (by omega) (x := e)) (fun y h2 l2 _ _ _ ⟨ey, e2⟩ => ?_)
  refine Ends.eq (b833_46 l2 (by omega)) ?_
  rcases ce with z | z
  · rw [z, if_neg (by decide)] at ey
    rw [ey]
    have n5 : ns < 6 := by
      rw [ee] at z
      unfold skE at z
      split at z
      · omega
      · split at z <;> omega
    refine Ends.b0 (fun _ => ?_) (fun y => absurd rfl y)
    refine Ends.cv l2 (by decide +kernel) (c_edQ l2 (by omega) M l (by rw [e2, z]) hdn) (fun h3 l3 _ _ _ ⟨q, hq3, D3, T3, E3, lo3, _, fin⟩ => ?_)
    have ns3 : hv h3 q 3 = (ns : Int) := by rw [E3.1 3 (by decide), ens]
    refine Ends.eq (b833_55 l3 (by omega) hq3 D3) ?_
    rw [ns3, tn]
    refine Ends.g ⟨by omega, by omega⟩ ?_
    have Sw : YS B (q + (8 + 14 * ns)) h3 := by
      have := (D3.sk (i := (ns : Int)) ⟨by omega, by omega⟩).1
      rw [tn] at this
      exact this
    obtain ⟨w, ew⟩ : ∃ w, w = q + (8 + 14 * ns) := ⟨_, rfl⟩
    rw [← ew] at Sw ⊢
    refine Ends.cv l3 (by decide +kernel) (c_clear876 l3 (by omega) Sw) (fun h4 l4 _ _ _ e4 => ?_)
    have g4 : Agr (fun c k => c = w ∧ k < 6) h3 h4 := by rw [e4]; exact (((Agr.rf.set ⟨rfl, by decide⟩).set ⟨rfl, by decide⟩).set ⟨rfl, by decide⟩).set ⟨rfl, by decide⟩
    have D4 : YD B q h4 := D3.agr g4 (fun c k p z => by
      obtain ⟨z1, z2⟩ := z
      rcases p with p | p | p | ⟨s', hs', p, p2⟩ | ⟨s', hs', p, _⟩ <;> omega)
    have S4 : YS B w h4 := Sw.agr g4 (fun k h6 z => by omega)
    have hq4 : hv h4 (B + 149) 19 = rf q := by rw [g4.at _ _ (by omega)]; exact hq3
    have ns4 : hv h4 q 3 = (ns : Int) := by rw [g4.at _ _ (by omega)]; exact ns3
    refine Ends.eq (b833_75 l4 (by omega) hq4 D4 S4) ?_
    rw [ns4, show bop32 96 (ns : Int) 1 = ((ns + 1 : Nat) : Int) from addNN (y := 1) (by omega)]
    have g5 : Agr (fun c k => (c = w ∧ k < 6) ∨ (c = q ∧ k = 3)) h3 (hset (hset (hset h4 w 0 x1) w 1 x2) q 3 ((ns + 1 : Nat) : Int)) := (((g4.sub (fun _ _ z => Or.inl z)).set (Or.inl ⟨rfl, by decide⟩)).set (Or.inl ⟨rfl, by decide⟩)).set (Or.inr ⟨rfl, rfl⟩)
    have T5 : TD (hset (hset (hset h4 w 0 x1) w 1 x2) q 3 ((ns + 1 : Nat) : Int)) q := by
      obtain ⟨T1, T2, T3', T4, T5⟩ := T3
      refine ⟨fun j hj => by rw [g5.at _ _ (by omega)]; exact (T1 j hj).agr g5, fun s' hs' => (T2 s' hs').off g5 (fun c k z => by omega), fun f hf => (T3' f hf).off g5 (fun c k z => by omega), by rw [hv_set_at]; omega, by rw [hv_set_at]; omega⟩
    refine Ends.sm (KR _ _ (Or.inr ⟨z, ?_, fin _ _ _ g5 (fun c k z => ?_) T5 ?_⟩))
    · rw [show bop32 100 ((ns + 1 : Nat) : Int) 1 = ((ns + 1 - 1 : Nat) : Int) from subNN (y := 1) (by omega) (by omega)]
      congr 1
    · rcases z with z | z
      · exact sk_dW n5 (by rw [← ew]; exact Or.inl z)
      · rw [z.1, z.2]; exact hd_dW (by decide)
    · rw [← ew, e4]; rfl
  · rw [if_pos z] at ey
    rw [ey]
    exact Ends.b0 (fun y => absurd y (by decide)) (fun _ => Ends.sm (KR _ _ (Or.inl ⟨by omega, rfl, e2⟩)))
end MED3
