/-! L3: features suppressed: desk, model -/
noncomputable section SUPP
variable {gv : Nat → Int} {B n d f : Nat} {h : AH} {H : Nat → Nat → Int} {t : Nat → Nat} {dn tt tu mw al : Nat} {x y : Int} {Q : Nat → Nat}
/-- where a feature of the desk lies -/
def feA (f : Nat) : Nat := 25512 + 494 * f
theorem v254_is (hf : f < 24) : v254 (f : Int) = ((feA f : Nat) : Int) := by
  have : ∀ f : Fin 24, v254 ((f : Nat) : Int) = ((feA f : Nat) : Int) := by decide +kernel
  exact this ⟨f, hf⟩
theorem fe_b (hf : f < 24) : feA f + 494 ≤ 37368 := by unfold feA; omega
theorem fe_ix {i : Nat} (hf : f < 24) (hi : i < 494) : bop32 96 (v254 (f : Int)) ((i : Nat) : Int) = ((feA f + i : Nat) : Int) := by
  rw [v254_is hf]
  have := fe_b hf
  exact i_k (by omega) (by omega)
/-- a feature of the desk that is there -/
abbrev feL (c : Nat → Int) (x : Int) : Prop := 0 ≤ x ∧ x < c 4 ∧ c (feA x.toNat) = 1
theorem v274_is (S : St B h H t dn tt tu mw) (N : 0 ≤ H dn 4 ∧ H dn 4 ≤ 24) : q274 B h x ∧ v274 B h x = if decide (feL (H dn) x) = true then 1 else 0 := by
  obtain ⟨a1, a2⟩ := ix_is (i := 4) S (by decide)
  have := alv_is (x := x) (N := H dn 4) (IX := v254 x) (i0 := feA x.toNat) S (show q447 B h 4 from a1) (fun h1 h2 => by
    obtain ⟨k, ek⟩ : ∃ k : Nat, x = (k : Int) := ⟨x.toNat, by omega⟩
    subst ek
    rw [tn]
    have := fe_b (f := k) (by omega)
    exact ⟨v254_is (by omega), by omega⟩)
  unfold q274 v274
  rw [show v447 B h 4 = H dn 4 from a2]
  exact this
/-- whether it is suppressed -/
abbrev suB (v : Int) : Int := if v = 1 then 1 else 0
theorem c_suppress96 (l : LX B n h) (hd : 20 ≤ d) (S : St B h H t dn tt tu mw) (N : 0 ≤ H dn 4 ∧ H dn 4 ≤ 24) (hdn : dn < 100) (htu : tu < 1000000) (hmw : mw + 100 < 1000000) :
    Opx 0 (cll PP (ev PP (gsF gv) B) d 96 [(2, rf (B + 0)), (0, x), (0, y)] h) (fun r h' => feL (H dn) x ∧ ((r = 0 ∧ suB (H dn (feA x.toNat + 4)) = y ∧ h' = h) ∨ (r = 1 ∧ suB (H dn (feA x.toNat + 4)) ≠ y ∧ EdR B H dn tu mw (upc (H dn) (feA x.toNat + 4) (if y = 0 then 0 else 1)) h h'))) (fun c q => q = h ∧ c = 31 ∧ ¬ feL (H dn) x) := by
  refine Opx.inq (D := 19) hd (Nat.le_of_ble_eq_true rfl) rfl (fun d hd R K KE => ?_)
  obtain ⟨a1, a2⟩ := v274_is (x := x) S N
  refine Ends.eq (b96_0 l (by omega)) (Ends.g a1 ?_)
  rw [a2]
  refine Ends.there l (by omega) rfl (fun p1 => ?_) (fun p1 => Ends.thn rfl (KE 31 h ⟨rfl, rfl, of_decide_eq_false p1⟩))
  have p1' := of_decide_eq_true p1
  obtain ⟨f, ef⟩ : ∃ f : Nat, x = (f : Int) := ⟨x.toNat, by omega⟩
  subst ef
  rw [tn] at K
  have hf : f < 24 := by omega
  have fb := fe_b hf
  refine Ends.eq (b96_11 l (by omega)) ?_
  have inner : Vt 0 (cll PP (ev PP (gsF gv) B) d 313 [(2, rf (B + 92)), (0, (f : Int)), (0, y)] h) (fun r h' => (r = 0 ∧ suB (H dn (feA f + 4)) = y ∧ h' = h) ∨ (r = 1 ∧ suB (H dn (feA f + 4)) ≠ y ∧ EdR B H dn tu mw (upc (H dn) (feA f + 4) (if y = 0 then 0 else 1)) h h')) := by
    refine Vt.inq (D := 17) (by omega) (Nat.le_of_ble_eq_true rfl) rfl (fun d hd Q K => ?_)
    have e4 : bop32 96 (v254 (f : Int)) 4 = ((feA f + 4 : Nat) : Int) := fe_ix (i := 4) hf (by decide)
    obtain ⟨c1, c2⟩ := ix_is (i := feA f + 4) S (by clear e4; omega)
    refine Ends.eq (b313_0 l (by clear e4; omega)) ?_
    rw [e4, c2, ct1]
    refine Ends.g c1 (Ends.b1 (fun ne => ?_) (fun eq_ => Ends.sm (K _ _ (Or.inl ⟨rfl, eq_, rfl⟩))))
    refine Ends.cv l (by decide +kernel) (c_stBegin l (by clear e4; omega) S hdn htu) (fun h0 l0 _ _ _ ⟨_, x0, S0⟩ => ?_)
    refine Ends.eq (b313_35 l0 (by clear e4; omega)) ?_
    rw [e4, ct0]
    clear e4
    refine Ends.cv l0 (by decide +kernel) (c_stSet (k := feA f + 4) (v := if y = 0 then 0 else 1) l0 (by omega) S0 (by omega) (by omega)) (fun h1 l1 _ _ _ ⟨y1, S1⟩ => ?_)
    have x1 := x0.tr y1
    refine Ends.eq (b313_57 l1 (by omega)) ?_
    refine Ends.cv l1 (by decide +kernel) (c_stEnd l1 (by omega) S1 hdn) (fun h9 l9 _ _ _ ⟨_, x9, t9, S9⟩ => ?_)
    exact Ends.eq (b313_64 l9 (by omega)) (Ends.sm (K _ _ (Or.inr ⟨rfl, ne, ⟨x1.tr x9, t9, S9.mw (by omega)⟩⟩)))
  refine Ends.ct l (by decide +kernel) (by decide) inner (fun r h' l' _ _ _ res => ?_)
  have r01 : r = 0 ∨ r = 1 := by rcases res with ⟨z, _⟩ | ⟨z, _⟩ <;> omega
  exact Ends.eq (b96_20 l' (by omega)) (Ends.g r01 (Ends.sm (K _ _ ⟨p1', res⟩)))
/-- a feature of the model that is there -/
abbrev ftL (h : AH) (q : Nat) (x : Int) : Prop := 0 ≤ x ∧ x < 24 ∧ hv h (q + (92 + 2 * x.toNat)) 0 ≠ 0
theorem v760_is {q : Nat} : q760 q h x ∧ v760 q h x = if ftL h q x then 0 else 1 := by
  unfold q760 v760
  rw [ct2, ct3, ct2, ct3, ct1]
  by_cases z1 : x < 0
  · rw [if_pos z1, if_pos z1, if_neg (by omega)]; exact ⟨True.intro, rfl⟩
  · rw [if_neg z1, if_neg z1]
    by_cases z2 : x < 24
    · rw [if_pos z2, if_pos z2]
      refine ⟨⟨by omega, by omega⟩, ?_⟩
      by_cases z3 : hv h (q + (92 + 2 * Int.toNat x)) 0 = 0
      · rw [if_pos z3, if_neg (fun w => w.2.2 z3)]
      · rw [if_neg z3, if_pos ⟨by omega, z2, z3⟩]
    · rw [if_neg z2, if_neg z2, if_neg (fun w => z2 w.2.1)]; exact ⟨True.intro, rfl⟩
theorem TF.st {w k : Nat} {v : Int} (T : TF h w) (hk : k < 5) (hv01 : (k = 0 ∨ k = 4) → v = 0 ∨ v = 1) : TF (hset h w k v) w := by
  obtain ⟨a, b, c⟩ := T
  have g : Agr (fun x y => x = w ∧ y = k) h (hset h w k v) := Agr.rf.set ⟨rfl, rfl⟩
  refine ⟨?_, ?_, fun j hj => ?_⟩
  · by_cases e : k = 0
    · subst e; rw [hv_set_at]; exact hv01 (Or.inl rfl)
    · rw [hv_set_ne (by omega)]; exact a
  · by_cases e : k = 4
    · subst e; rw [hv_set_at]; exact hv01 (Or.inr rfl)
    · rw [hv_set_ne (by omega)]; exact b
  · rcases c j hj with e | ⟨e1, e2, e3⟩
    · exact Or.inl (by rw [hv_set_ne (by omega)]; exact e)
    · exact Or.inr (by rw [hv_set_ne (by omega)]; exact ⟨e1, by rw [g.hk]; exact e2, by rw [g.nx]; exact e3⟩)
theorem c_suppress841 (l : LX B n h) (hd : 20 ≤ d) (M : MRg B h Q al dn tt) (hdn : dn < 99) (hy : y = 0 ∨ y = 1) :
    Vt 0 (cll PP (ev PP (gsF gv) B) d 841 [(2, rf (B + 149)), (0, x), (0, y)] h) (fun r h' => (¬ ftL h (Q dn) x ∧ r = 0 ∧ h' = hset h (B + 149) 0 1) ∨ (ftL h (Q dn) x ∧ ((r = 0 ∧ hv h (Q dn + (92 + 2 * x.toNat)) 4 = y ∧ h' = hset h (B + 149) 0 0) ∨ (r = 1 ∧ hv h (Q dn + (92 + 2 * x.toNat)) 4 ≠ y ∧ EdQ B h Q al dn h' (fun h3 q => h' = hset h3 (q + (92 + 2 * x.toNat)) 4 y))))) := by
  have m4 := M.2.2.2.2.2.2.2.1 dn (by have := M.2.2.2.2.1; have := M.2.2.2.2.2.1; omega)
  have D := m4.2.1
  have hq := M.2.2.2.1
  have lo := D.lo
  refine Vt.inq (D := 19) hd (Nat.le_of_ble_eq_true rfl) rfl (fun d hd R KR => ?_)
  obtain ⟨a1, a2⟩ := v760_is (h := h) (q := Q dn) (x := x)
  refine Ends.eq (b841_0 l (by omega) hq D) (Ends.g a1 ?_)
  rw [a2, ct0]
  by_cases z : ftL h (Q dn) x
  · rw [if_pos z, if_pos rfl]
    refine Ends.ct l (by decide +kernel) (by decide) (c_fails l (by omega) (x := 0)) (fun r h2 l2 _ _ _ ⟨er, e2⟩ => ?_)
    rw [if_neg (by decide)] at er
    obtain ⟨M2, g2⟩ := f0_edit l M h2 e2
    have m42 := M2.2.2.2.2.2.2.2.1 dn (by have := M.2.2.2.2.1; have := M.2.2.2.2.2.1; omega)
    refine Ends.eq (b841_17 l2 (by omega) M2.2.2.2.1 m42.2.1) ?_
    rw [er]
    refine Ends.b1 (fun w => absurd rfl w) (fun _ => Ends.g ⟨z.1, z.2.1⟩ ?_)
    obtain ⟨f, ef⟩ : ∃ f : Nat, x = (f : Int) := ⟨x.toNat, by omega⟩
    subst ef
    rw [tn] at KR ⊢
    have hf : f < 24 := by omega
    rw [g2.at _ _ (by omega)]
    refine Ends.b1 (fun ne => ?_) (fun eq_ => Ends.eq (b841_36 l2 (by omega)) (Ends.sm (KR _ _ (Or.inr ⟨z, Or.inl ⟨rfl, eq_, e2⟩⟩))))
    refine Ends.cv l2 (by decide +kernel) (c_edQ l2 (by omega) M l e2 hdn) (fun h3 l3 _ _ _ ⟨q, hq3, D3, T3, E3, lo3, _, fin⟩ => ?_)
    refine Ends.eq (b841_42 l3 (by omega) hq3 D3) ?_
    rw [tn]
    refine Ends.g ⟨by omega, by omega⟩ (Ends.g hy (Ends.sm (KR _ _ (Or.inr ⟨z, Or.inr ⟨rfl, ne, fin _ _ (fun c k => c = q + (92 + 2 * f) ∧ k = 4) (Agr.rf.set ⟨rfl, rfl⟩) (fun c k w => ?_) ?_ rfl⟩⟩))))
    · rw [w.1, w.2]
      exact ft_dW hf (Or.inl ⟨rfl, by decide⟩)
    · obtain ⟨T1, T2, T3', T4, T5⟩ := T3
      have g5 : Agr (fun c k => c = q + (92 + 2 * f) ∧ k = 4) h3 (hset h3 (q + (92 + 2 * f)) 4 y) := Agr.rf.set ⟨rfl, rfl⟩
      refine ⟨fun j hj => by rw [g5.at _ _ (by omega)]; exact (T1 j hj).agr g5, fun s' hs' => (T2 s' hs').off g5 (fun c k z => by omega), fun f' hf' => ?_, by rw [g5.at _ _ (by omega)]; exact T4, by rw [g5.at _ _ (by omega)]; exact T5⟩
      by_cases e : f' = f
      · rw [e]; exact (T3' f hf).st (by decide) (fun _ => hy)
      · exact (T3' f' hf').off g5 (fun c k z => by omega)
  · rw [if_neg z, if_neg (by decide)]
    refine Ends.ct l (by decide +kernel) (by decide) (c_fails l (by omega) (x := 1)) (fun r h2 l2 _ _ _ ⟨er, e2⟩ => ?_)
    rw [if_pos (by decide)] at er
    have g2 : Agr (fun c k => c = B + 149 ∧ k = 0) h h2 := by rw [e2]; exact Agr.rf.set ⟨rfl, rfl⟩
    have D2 : YD B (Q dn) h2 := D.agr g2 (fun c k p z => by rcases p with p | p | p | ⟨s', hs', p, p2⟩ | ⟨s', hs', p, _⟩ <;> omega)
    refine Ends.eq (b841_17 l2 (by omega) (by rw [g2.at _ _ (by omega)]; exact hq) D2) ?_
    rw [er]
    exact Ends.b1 (fun _ => Ends.eq (b841_36 l2 (by omega)) (Ends.sm (KR _ _ (Or.inl ⟨z, rfl, e2⟩)))) (fun w => absurd w (by decide))
end SUPP
