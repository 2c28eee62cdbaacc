/-! L3: an edit of the model's designs -/
section RING
variable {gv : Nat → Int} {B n d : Nat} {h : AH}
/-- what an edit writes ahead of the edit itself -/
def edW (B : Nat) (Q : Nat → Nat) (al dn : Nat) : Nat → Nat → Prop := fun c k => (c = B + 149 ∧ 16 ≤ k ∧ k ≤ 19) ∨ (c = B + 151 ∧ k = dn + 1) ∨ c = B + 154 ∨ (dn + 1 < al ∧ dW (Q (dn + 1)) c k)
theorem c_edit {Q : Nat → Nat} {al dn tt : Nat} (l : LX B n h) (hd : 16 ≤ d) (M : MRg B h Q al dn tt) (hdn : dn < 99) :
    Vd (cll PP (ev PP (gsF gv) B) d 603 [(2, rf (B + 149))] h) (fun h' => ∃ Q' al', (∀ i, i < al → Q' i = Q i) ∧ MRg B h' Q' al' (dn + 1) (dn + 1) ∧ al ≤ al' ∧ (dn + 1 < al → al' = al) ∧ (al ≤ dn + 1 → Q' (dn + 1) = hnx h) ∧ DsEq h (Q dn) h' (Q' (dn + 1)) ∧ (∀ k, k < 40 → hv h' (B + 154) k = 0) ∧ Ext (edW B Q al dn) 140 2977 h h') := by
  have hb := l.2.2
  obtain ⟨m16, m17, m18, m19, m1, m2, m3, m4, m5, m6⟩ := M
  refine Vd.into (D := 15) hd (Nat.le_of_ble_eq_true rfl) rfl (fun d hd => ?_)
  refine Ends.eq (b603_0 (n := n) (by (repeat' first | assumption | refine LX.setF _ _ ?_ (by decide +kernel) | refine LX.setS ?_ rfl | refine LX.setA ?_ (by first | assumption | omega))) (by first | assumption | omega)) ?_
  rw [m16, show bop32 96 (dn : Int) 1 = ((dn + 1 : Nat) : Int) from b96_1 (by omega), v549_is (by omega)]
  obtain ⟨c1, c2, c3, c4⟩ := m4 dn (by omega)
  -- with the next design in q1
  have go : ∀ (q1 : Nat) (s : AH) (u1 : AV) (Q' : Nat → Nat) (al' : Nat), LX B n s → (∀ i, i < al → Q' i = Q i) → Q' (dn + 1) = q1 → al ≤ al' → dn + 1 < al' → al' ≤ 100 → (dn + 1 < al → al' = al) → (al ≤ dn + 1 → q1 = hnx h) → (∀ i, i < al' → hv s (B + 151) i = rf (Q' i) ∧ YD B (Q' i) s ∧ TD s (Q' i) ∧ Q' i + 140 ≤ hnx s) → (∀ i, al' ≤ i → i < 101 → hv s (B + 151) i = 0) → (∀ i j, i < j → j < al' → Q' i + 140 ≤ Q' j) → Ext (fun c k => c = B + 151 ∧ k = dn + 1) 140 2977 h s → Ends (ev PP (gsF gv) B d 603 13 [(2, rf (B + 149)), u1] [(2, rf q1)] s) (fun r => ∃ h', r = ((0, (9, 0)), h') ∧ ∃ Q' al', (∀ i, i < al → Q' i = Q i) ∧ MRg B h' Q' al' (dn + 1) (dn + 1) ∧ al ≤ al' ∧ (dn + 1 < al → al' = al) ∧ (al ≤ dn + 1 → Q' (dn + 1) = hnx h) ∧ DsEq h (Q dn) h' (Q' (dn + 1)) ∧ (∀ k, k < 40 → hv h' (B + 154) k = 0) ∧ Ext (edW B Q al dn) 140 2977 h h') := by
    intro q1 s u1 Q' al' ls hQ eq1 hal hdn' hal' he1 he2 i4 i5 i6 xs
    have eQ : Q' dn = Q dn := hQ dn (by omega)
    obtain ⟨a1, a2, a3, a4⟩ := i4 dn (by omega)
    obtain ⟨b1, b2, b3, b4⟩ := i4 (dn + 1) (by omega)
    rw [eQ] at a1 a2 a3 a4
    rw [eq1] at b1 b2 b3 b4
    have dist : Q dn + 140 ≤ q1 := by rw [← eq1, ← eQ]; exact i6 dn (dn + 1) (by omega) hdn'
    have sat : ∀ k, hv s (B + 149) k = hv h (B + 149) k := fun k => xs.at _ (by omega) (by omega)
    have D0 := a2
    have D1 := b2
    have hq : hv s (B + 149) 19 = rf (Q dn) := by rw [sat]; exact m19
    have D := a2
    refine Ends.eq (b603_13 (n := n) (by (repeat' first | assumption | refine LX.setF _ _ ?_ (by decide +kernel) | refine LX.setS ?_ rfl | refine LX.setA ?_ (by first | assumption | omega))) (by first | assumption | omega) (by first | assumption | omega) (by first | assumption | omega)) ?_
    refine Ends.cv ls (by decide +kernel) (c_copyD ls (by omega) a2 b2 (Or.inl dist) a3 b3) (fun s2 l2 _ _ _ ⟨g2, e2, t2⟩ => ?_)
    have lo1 := b2.lo
    have sat2 : ∀ k, hv s2 (B + 149) k = hv h (B + 149) k := fun k => by rw [g2.at _ _ (by unfold dW; omega)]; exact sat k
    have D1 := b2.dw g2
    have hq : hv s2 (B + 149) 19 = rf (Q dn) := by rw [sat2]; exact m19
    have D : YD B (Q dn) s2 := a2.far g2 (fun c k h1 h2 => by unfold dW; omega)
    refine Ends.eq (b603_22 (n := n) (by (repeat' first | assumption | refine LX.setF _ _ ?_ (by decide +kernel) | refine LX.setS ?_ rfl | refine LX.setA ?_ (by first | assumption | omega))) (by first | assumption | omega)) ?_
    rw [sat2 16, sat2 17, m16, m17, show bop32 96 (dn : Int) 1 = ((dn + 1 : Nat) : Int) from b96_1 (by omega), v549_is (by omega)]
    refine Ends.b3 (fun z => by omega) (fun _ => ?_)
    generalize eh3 : hset (hset (hset s2 (B + 149) 16 ((dn + 1 : Nat) : Int)) (B + 149) 19 (rf q1)) (B + 149) 17 ((dn + 1 : Nat) : Int) = s3
    have l3 : LX B n s3 := by rw [← eh3]; exact LX.setF 149 17 (LX.setF 149 19 (LX.setF 149 16 l2 (by decide +kernel)) (by decide +kernel)) (by decide +kernel)
    have g3 : Agr (fun c k => c = B + 149 ∧ 16 ≤ k ∧ k ≤ 19) s2 s3 := by rw [← eh3]; exact ((Agr.rf.set ⟨rfl, by decide, by decide⟩).set ⟨rfl, by decide, by decide⟩).set ⟨rfl, by decide, by decide⟩
    have v16 : hv s3 (B + 149) 16 = ((dn + 1 : Nat) : Int) := by rw [← eh3, hv_set_ne (by omega), hv_set_ne (by omega)]; exact hv_set_at ..
    have v17 : hv s3 (B + 149) 17 = ((dn + 1 : Nat) : Int) := by rw [← eh3]; exact hv_set_at ..
    have v19 : hv s3 (B + 149) 19 = rf q1 := by rw [← eh3, hv_set_ne (by omega)]; exact hv_set_at ..
    clear eh3
    have D1 : YD B q1 s3 := D1.far g3 (fun c k h1 h2 => by omega)
    have hq : hv s3 (B + 149) 19 = rf q1 := v19
    have D := D1
    refine Ends.eq (b603_59 (n := n) (by (repeat' first | assumption | refine LX.setF _ _ ?_ (by decide +kernel) | refine LX.setS ?_ rfl | refine LX.setA ?_ (by first | assumption | omega))) (by first | assumption | omega)) ?_
    have l4 : LX B n (hset s3 (B + 149) 18 0) := (by (repeat' first | assumption | refine LX.setF _ _ ?_ (by decide +kernel) | refine LX.setS ?_ rfl | refine LX.setA ?_ (by assumption)))
    have g4 : Agr (fun c k => c = B + 149 ∧ 16 ≤ k ∧ k ≤ 19) s2 (hset s3 (B + 149) 18 0) := g3.set ⟨rfl, by decide, by decide⟩
    have w16 : hv (hset s3 (B + 149) 18 0) (B + 149) 16 = ((dn + 1 : Nat) : Int) := by rw [hv_set_ne (by omega)]; exact v16
    have w17 : hv (hset s3 (B + 149) 18 0) (B + 149) 17 = ((dn + 1 : Nat) : Int) := by rw [hv_set_ne (by omega)]; exact v17
    have w19 : hv (hset s3 (B + 149) 18 0) (B + 149) 19 = rf q1 := by rw [hv_set_ne (by omega)]; exact v19
    have w18 : hv (hset s3 (B + 149) 18 0) (B + 149) 18 = 0 := hv_set_at ..
    generalize hset s3 (B + 149) 18 0 = s4 at *
    refine Ends.cv l4 (by decide +kernel) (c_forget l4 (by omega)) (fun s5 l5 _ _ _ ⟨g5, k5⟩ => ?_)
    have G5 : Agr (fun c k => (c = B + 149 ∧ 16 ≤ k ∧ k ≤ 19) ∨ c = B + 154) s2 s5 := (g4.sub (fun c k w => Or.inl w)).tr g5 (fun c k w => Or.inr w)
    have G25 : Agr (fun c k => (c = B + 149 ∧ 16 ≤ k ∧ k ≤ 19) ∨ c = B + 154 ∨ dW q1 c k) s s5 := (g2.sub (fun c k w => Or.inr (Or.inr w))).tr G5 (fun c k w => by omega)
    have D1 : YD B q1 s5 := (b2.dw g2).far G5 (fun c k h1 h2 => by omega)
    have hq : hv s5 (B + 149) 19 = rf q1 := by rw [g5.at _ _ (by omega)]; exact w19
    have D := D1
    refine Ends.eq (b603_68 (n := n) (by (repeat' first | assumption | refine LX.setF _ _ ?_ (by decide +kernel) | refine LX.setS ?_ rfl | refine LX.setA ?_ (by first | assumption | omega))) (by first | assumption | omega)) ?_
    have farO : ∀ i, i < al' → i ≠ dn + 1 → ∀ c k, Q' i ≤ c → c < Q' i + 140 → ¬ ((c = B + 149 ∧ 16 ≤ k ∧ k ≤ 19) ∨ c = B + 154 ∨ dW q1 c k) := fun i hi hne c k h1 h2 w => by
      have lo := (i4 i hi).2.1.lo
      rcases w with w | w | w
      · omega
      · omega
      · unfold dW at w
        rcases Nat.lt_or_gt_of_ne hne with z | z
        · have := i6 i (dn + 1) z hdn'
          rw [eq1] at this; omega
        · have := i6 (dn + 1) i z hi
          rw [eq1] at this; omega
    have at0 : ∀ j k, j < 140 → hv s (Q dn + j) k = hv h (Q dn + j) k := fun j k hj => xs.at _ (by omega) (by have := c2.lo; omega)
    refine Ends.sm ⟨_, rfl, Q', al', hQ, ⟨by rw [g5.at _ _ (by omega)]; exact w16, by rw [g5.at _ _ (by omega)]; exact w17, by rw [g5.at _ _ (by omega), Nat.sub_self]; exact w18, by rw [g5.at _ _ (by omega), eq1]; exact w19, Nat.le_refl _, hdn', hal', fun i hi => ?_, fun i h1 h2 => by rw [G25.at _ _ (by unfold dW; omega)]; exact i5 i h1 h2, i6⟩, hal, he1, fun z => by rw [eq1]; exact he2 z, ?_, k5, ?_⟩
    · obtain ⟨z1, z2, z3, z4⟩ := i4 i hi
      refine ⟨by rw [G25.at _ _ (by unfold dW; omega)]; exact z1, ?_, ?_, by rw [G25.nx]; exact z4⟩
      · by_cases e : i = dn + 1
        · subst e; rw [eq1]; exact D1
        · exact z2.far G25 (farO i hi e)
      · by_cases e : i = dn + 1
        · subst e
          rw [eq1]
          exact t2.agr G5 (fun c k h1 h2 => by omega)
        · exact z3.agr G25 (farO i hi e)
    · rw [eq1]
      exact e2.mv (fun j k hj => G5.at _ _ (by omega)) at0
    · refine ((xs.sub (fun c k _ w => Or.inr (Or.inl w)) (Nat.le_refl _) (Nat.le_refl _)).tr (G25.ext) (fun c k hc w => ?_)).ml' (by omega) (by omega)
      rcases w with w | w | w
      · exact Or.inl w
      · exact Or.inr (Or.inr (Or.inl w))
      · by_cases z : dn + 1 < al
        · exact Or.inr (Or.inr (Or.inr ⟨z, by rw [← hQ _ z, eq1]; exact w⟩))
        · have := he2 (by omega)
          unfold dW at w; omega
  by_cases hal : dn + 1 < al
  · obtain ⟨b1, b2, b3, b4⟩ := m4 (dn + 1) hal
    refine Ends.ct l (by decide +kernel) (by decide) (c_at l (by omega) (i := dn + 1) (by omega) (Or.inr ⟨_, b1⟩)) (fun x s1 l1 _ _ _ w => ?_)
    rcases w with ⟨q, e1, e2, e3⟩ | ⟨e1, _⟩
    · subst e2 e3
      have : q = Q (dn + 1) := rf_inj.mp (e1.symm.trans b1)
      subst this
      exact go (Q (dn + 1)) s1 _ Q al l (fun _ _ => rfl) rfl (Nat.le_refl _) hal m3 (fun _ => rfl) (fun z => by omega) m4 m5 m6 (Ext.rf.ml' (Nat.zero_le _) (Nat.zero_le _))
    · exact absurd (e1.symm.trans b1) (fun z => rf_ne _ z.symm)
  · have eal : al = dn + 1 := by omega
    refine Ends.ct l (by decide +kernel) (by decide) (c_at l (by omega) (i := dn + 1) (by omega) (Or.inl (m5 (dn + 1) (by omega) (by omega)))) (fun x s1 l1 _ _ _ w => ?_)
    rcases w with ⟨q, e1, _⟩ | ⟨_, ex, Y1, Z1, n1, x1, v1⟩
    · exact absurd ((m5 (dn + 1) (by omega) (by omega)).symm.trans e1) (fun z => rf_ne _ z.symm)
    subst ex
    have keep : ∀ i, i < al → YD B (Q i) s1 ∧ TD s1 (Q i) := fun i hi => by
      obtain ⟨z1, z2, z3, z4⟩ := m4 i hi
      have lo := z2.lo
      exact ⟨z2.ext z4 x1 (fun c k h1 h2 w => by omega), z3.ext z4 x1 (fun c k h1 h2 w => by omega)⟩
    refine go (hnx h) s1 _ (fun i => if i = dn + 1 then hnx h else Q i) (dn + 2) l1 (fun i hi => if_neg (by omega)) (if_pos rfl) (by omega) (by omega) (by omega) (fun z => by omega) (fun _ => rfl) (fun i hi => ?_) (fun i h1 h2 => ?_) (fun i j h1 h2 => ?_) x1
    · by_cases e : i = dn + 1
      · subst e
        rw [if_pos rfl]
        exact ⟨v1, Y1, Z1.td, by omega⟩
      · rw [if_neg e]
        obtain ⟨z1, z2, z3, z4⟩ := m4 i (by omega)
        obtain ⟨k1, k2⟩ := keep i (by omega)
        exact ⟨by rw [x1.at _ (by omega) (by omega)]; exact z1, k1, k2, by omega⟩
    · rw [x1.at _ (by omega) (by omega)]; exact m5 i (by omega) h2
    · by_cases e : j = dn + 1
      · subst e
        rw [if_pos rfl, if_neg (by omega)]
        exact (m4 i (by omega)).2.2.2
      · rw [if_neg e, if_neg (by omega)]
        exact m6 i j h1 (by omega)
end RING
