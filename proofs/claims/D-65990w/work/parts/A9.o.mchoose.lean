/-! L3: the model's choose -/
section MCHOOSE
variable {gv : Nat → Int} {B n d : Nat} {h : AH} {c : Nat → Int} {nv nc : Nat} {Q : Nat → Nat} {al dn tt : Nat}
theorem TD.hd {q : Nat} {t : AH} (T : TD h q) (g : Agr (fun c k => c = q ∧ k < 6 ∧ k ≠ 3) h t) : TD t q := by
  obtain ⟨T1, T2, T3, T4, T5⟩ := T
  have out : ∀ j k, 1 ≤ j → hv t (q + j) k = hv h (q + j) k := fun j k hj => g.at _ _ (by omega)
  refine ⟨fun j hj => by rw [out 3 j (by decide)]; exact (T1 j hj).agr g, fun s hs => (T2 s hs).keep g (fun j k h1 h2 w => by omega), fun f hf => ⟨by rw [out _ _ (by omega)]; exact (T3 f hf).1, by rw [out _ _ (by omega)]; exact (T3 f hf).2.1, fun k hk => by rw [Nat.add_assoc q, out _ _ (by omega), ← Nat.add_assoc q]; exact ((T3 f hf).2.2 k hk).agr g⟩, by rw [g.at _ _ (by omega)]; exact T4, by rw [g.at _ _ (by omega)]; exact T5⟩
theorem c_choose569 {k : Int} (l : LX B n h) (hd : 20 ≤ d) (M : MRg B h Q al dn tt) (h1 : hv h (Q dn) 1 = (nc : Int)) (hdn : dn < 99) :
    Vt 0 (cll PP (ev PP (gsF gv) B) d 569 [(2, rf (B + 149)), (0, k)] h) (fun x h' => (¬ (0 ≤ k ∧ k < (nc : Int)) ∧ x = 0 ∧ h' = hset h (B + 149) 0 1) ∨ ((0 ≤ k ∧ k < (nc : Int)) ∧ x = hv h (Q dn) 2 ∧ ∃ h2 Q' al', Ext (edW B Q al dn) 140 2977 (hset h (B + 149) 0 0) h2 ∧ (∀ i, i < al → Q' i = Q i) ∧ al ≤ al' ∧ (dn + 1 < al → al' = al) ∧ (al ≤ dn + 1 → Q' (dn + 1) = hnx h) ∧ DsEq (hset h (B + 149) 0 0) (Q dn) h2 (Q' (dn + 1)) ∧ h' = hset h2 (Q' (dn + 1)) 2 k ∧ MRg B h' Q' al' (dn + 1) (dn + 1) ∧ ∀ k, k < 40 → hv h2 (B + 154) k = 0)) := by
  have hb0 := l.2.2
  have m4 := M.2.2.2.2.2.2.2.1 dn (by have := M.2.2.2.2.1; have := M.2.2.2.2.2.1; omega)
  have D := m4.2.1
  have hq := M.2.2.2.1
  have lo := D.lo
  refine Vt.into (D := 19) hd (Nat.le_of_ble_eq_true rfl) rfl (fun d hd => ?_)
  refine Ends.eq (b569_0 (n := n) (by (repeat' first | assumption | refine LX.setF _ _ ?_ (by decide +kernel) | refine LX.setS ?_ rfl | refine LX.setA ?_ (by first | assumption | omega))) (by first | assumption | omega) (by first | assumption | omega) (by first | assumption | omega)) ?_
  rw [h1, show (cond (tst 2 k 0) (1 : Int) (cond (tst 2 k (nc : Int)) 0 1)) = if 0 ≤ k ∧ k < (nc : Int) then 0 else 1 from by
    rw [tst2, tst2]
    by_cases z : k < 0
    · rw [decide_eq_true z, if_neg (by omega)]; rfl
    · by_cases z2 : k < (nc : Int)
      · rw [decide_eq_false z, decide_eq_true z2, if_pos ⟨by omega, z2⟩]; rfl
      · rw [decide_eq_false z, decide_eq_false z2, if_neg (by omega)]; rfl]
  by_cases hk : 0 ≤ k ∧ k < (nc : Int)
  rotate_left
  · rw [if_neg hk]
    refine Ends.ct l (by decide +kernel) (by decide) (c_fails l (by omega) (x := 1)) (fun y h2 l2 _ _ _ ⟨ey, e2⟩ => ?_)
    rw [if_pos (by decide)] at ey
    rw [ey]
    refine Ends.eq (b569_24 (n := n) (by (repeat' first | assumption | refine LX.setF _ _ ?_ (by decide +kernel) | refine LX.setS ?_ rfl | refine LX.setA ?_ (by first | assumption | omega))) (by first | assumption | omega)) ?_
    exact Ends.b0 (fun z => absurd z (by decide)) (fun _ => Ends.sm ⟨_, _, rfl, Or.inl ⟨hk, rfl, e2⟩⟩)
  rw [if_pos hk]
  refine Ends.ct l (by decide +kernel) (by decide) (c_fails l (by omega) (x := 0)) (fun y h2 l2 _ _ _ ⟨ey, e2⟩ => ?_)
  rw [if_neg (by decide)] at ey
  rw [ey, ← e2]
  have g2 : Agr (fun c k => c = B + 149 ∧ k = 0) h h2 := by rw [e2]; exact Agr.rf.set ⟨rfl, rfl⟩
  have M2 := M.ext l g2.ext (fun c k hc w => by omega)
  refine Ends.eq (b569_24 (n := n) (by (repeat' first | assumption | refine LX.setF _ _ ?_ (by decide +kernel) | refine LX.setS ?_ rfl | refine LX.setA ?_ (by first | assumption | omega))) (by first | assumption | omega)) ?_
  refine Ends.b0 (fun _ => ?_) (fun z => absurd rfl z)
  refine Ends.cv l2 (by decide +kernel) (c_edit l2 (by omega) M2 hdn) (fun h3 l3 _ _ _ ⟨Q', al', e1, ME, e3, e4, e5, e6, e7, eE⟩ => ?_)
  have ME0 := ME
  obtain ⟨m16, m17, m18, m19, n1, n2, n3, n4, n5, n6⟩ := ME
  obtain ⟨i1, i2, i3, i4⟩ := n4 (dn + 1) n2
  have hq := m19
  have D := i2
  refine Ends.eq (b569_33 (n := n) (by (repeat' first | assumption | refine LX.setF _ _ ?_ (by decide +kernel) | refine LX.setS ?_ rfl | refine LX.setA ?_ (by first | assumption | omega))) (by first | assumption | omega) (by first | assumption | omega) (by first | assumption | omega)) ?_
  have g : Agr (fun c k => c = Q' (dn + 1) ∧ k < 6 ∧ k ≠ 3) h3 (hset h3 (Q' (dn + 1)) 2 k) := Agr.rf.set ⟨rfl, by decide, by decide⟩
  refine Ends.sm ⟨_, _, rfl, Or.inr ⟨hk, ?_, h3, Q', al', eE, e1, e3, e4, fun z => by rw [e5 z, g2.nx], e6, rfl, ?_, e7⟩⟩
  · rw [e6.1 2 (by decide), g2.at _ _ (by omega)]
  · exact ME0.put n2 g (fun c k w => by rw [w.1]; exact hd_dW w.2.1) (i3.hd g)
end MCHOOSE
