/-! L3: the model's design ahead of and behind an edit; begin, fails -/
section MDEF
variable {gv : Nat → Int} {B n d m : Nat} {h : AH} {u c : Nat → Int} {nv nc : Nat} {Q : Nat → Nat} {al dn tt : Nat}
theorem YD.n24 {q a : Nat} (y : YD B q h) (h1 : q ≤ a) (h2 : a < q + 140) : hk h a ≠ (1, 24) := by
  obtain ⟨⟨a1, a2⟩, ⟨b1, b2, b3, b4, b5, b6, b7⟩, _, z, f⟩ := y
  have ne : ∀ {x : Nat × Nat}, hk h a = x → x ≠ (1, 24) → hk h a ≠ (1, 24) := fun e n => by rw [e]; exact n
  obtain ⟨j, rfl⟩ : ∃ j, a = q + j := ⟨a - q, by omega⟩
  by_cases j8 : j < 8
  · have : j = 0 ∨ j = 1 ∨ j = 2 ∨ j = 3 ∨ j = 4 ∨ j = 5 ∨ j = 6 ∨ j = 7 := by omega
    rcases this with rfl | rfl | rfl | rfl | rfl | rfl | rfl | rfl
    · exact ne a1 (by decide)
    · exact ne b1 (by decide)
    · exact ne b2 (by decide)
    · exact ne b3 (by decide)
    · exact ne b4 (by decide)
    · exact ne b5 (by decide)
    · exact ne b6 (by decide)
    · exact ne b7 (by decide)
  by_cases j92 : j < 92
  · obtain ⟨s, r, hs, hr, rfl⟩ : ∃ s r, s < 6 ∧ r < 14 ∧ j = 8 + 14 * s + r := ⟨(j - 8) / 14, (j - 8) % 14, by omega, by omega, by omega⟩
    obtain ⟨⟨⟨y1, _⟩, ⟨c1, c2, c3, c4, c5, c6, c7, c8, c9, c10, c11, c12, c13⟩, _⟩, _⟩ := z s hs
    rw [show q + (8 + 14 * s + r) = q + (8 + 14 * s) + r by omega] at ne ⊢
    have : r = 0 ∨ r = 1 ∨ r = 2 ∨ r = 3 ∨ r = 4 ∨ r = 5 ∨ r = 6 ∨ r = 7 ∨ r = 8 ∨ r = 9 ∨ r = 10 ∨ r = 11 ∨ r = 12 ∨ r = 13 := by omega
    rcases this with rfl | rfl | rfl | rfl | rfl | rfl | rfl | rfl | rfl | rfl | rfl | rfl | rfl | rfl
    · exact ne y1 (by decide)
    · exact ne c1 (by decide)
    · exact ne c2 (by decide)
    · exact ne c3 (by decide)
    · exact ne c4 (by decide)
    · exact ne c5 (by decide)
    · exact ne c6 (by decide)
    · exact ne c7 (by decide)
    · exact ne c8 (by decide)
    · exact ne c9 (by decide)
    · exact ne c10 (by decide)
    · exact ne c11 (by decide)
    · exact ne c12 (by decide)
    · exact ne c13 (by decide)
  · obtain ⟨s, r, hs, hr, rfl⟩ : ∃ s r, s < 24 ∧ r < 2 ∧ j = 92 + 2 * s + r := ⟨(j - 92) / 2, (j - 92) % 2, by omega, by omega, by omega⟩
    obtain ⟨⟨⟨y1, _⟩, c1, _⟩, _⟩ := f s hs
    rw [show q + (92 + 2 * s + r) = q + (92 + 2 * s) + r by omega] at ne ⊢
    have : r = 0 ∨ r = 1 := by omega
    rcases this with rfl | rfl
    · exact ne y1 (by decide)
    · exact ne c1 (by decide)
theorem AstI.e24 {lo g cc ss : Nat} {t : AH} {x : Int} {D : Dn} {N : Nat → Bool} {W : Nat → Nat → Prop} (A : AstI lo g h x D N) (e : Ext W cc ss h t) (hW : ∀ a k, lo ≤ a → hk h a = (1, 24) → ¬ W a k) : AstI lo g t x D N :=
  AstI.keep (Nat.le_refl _) e.2.2.1 (fun a la ha ka => ⟨by rw [e.1 a ha]; exact ka, fun k _ => e.at k ha (hW a k la ka)⟩) g g x D N (Nat.le_refl _) A
/-- the values' part in another design of the same contents -/
theorem DV.to {t : AH} {q q' : Nat} (V : DV B h c q nv nc) (E : DsEq h q t q') (ast : ∀ X N x, AstI (B + 246) 240 h x X N → AstI (B + 246) 240 t x X N) (hn : nv ≤ 40) (hnc : nc ≤ 4) : DV B t c q' nv nc := by
  obtain ⟨⟨a1, a2, a3⟩, V2, V3, V4, V5⟩ := V
  obtain ⟨E1, E2, E3, E4, E5, E6, E7, E8⟩ := E
  refine ⟨⟨by rw [E1 0 (by decide)]; exact a1, by rw [E1 1 (by decide)]; exact a2, by rw [E1 2 (by decide)]; exact a3⟩, fun v hv => ?_, fun k h1 h2 => by rw [E5 k (by omega)]; exact V3 k h1 h2, fun v k hv hk => ?_, fun v k h1 h2 h3 => ⟨(V5 v k h1 h2 h3).1, by rw [E4 _ (by omega)]; exact (V5 v k h1 h2 h3).2⟩⟩
  · obtain ⟨s, s1, s2, s3, s4, s5⟩ := V2 v hv
    exact ⟨s, s1, s2, s3, by rw [E3 _ (by omega)]; exact s4, fun i hi => by rw [E2 _ (by omega)]; exact s5 i hi⟩
  · rw [E4 _ (by omega)]
    exact (V4 v k hv hk).imp id (fun ⟨e1, X, N, p', r1, r2, r3⟩ => ⟨e1, X, N, p', r1, ast X N _ r2, r3⟩)
/-- the ring stays -/
theorem MRg.ext {cc ss : Nat} {t : AH} {W : Nat → Nat → Prop} (l : LX B n h) (M : MRg B h Q al dn tt) (e : Ext W cc ss h t) (hW : ∀ c k, (c = B + 149 ∧ 16 ≤ k ∧ k ≤ 19) ∨ c = B + 151 ∨ B + 246 ≤ c → ¬ W c k) : MRg B t Q al dn tt := by
  have hb := l.2.2
  obtain ⟨m16, m17, m18, m19, m1, m2, m3, m4, m5, m6⟩ := M
  have f : ∀ k, 16 ≤ k → k ≤ 19 → hv t (B + 149) k = hv h (B + 149) k := fun k h1 h2 => e.at k (by omega) (hW _ _ (Or.inl ⟨rfl, h1, h2⟩))
  have r : ∀ k, hv t (B + 151) k = hv h (B + 151) k := fun k => e.at k (by omega) (hW _ _ (Or.inr (Or.inl rfl)))
  refine ⟨by rw [f 16 (by decide) (by decide)]; exact m16, by rw [f 17 (by decide) (by decide)]; exact m17, by rw [f 18 (by decide) (by decide)]; exact m18, by rw [f 19 (by decide) (by decide)]; exact m19, m1, m2, m3, fun i hi => ?_, fun i h1 h2 => by rw [r]; exact m5 i h1 h2, m6⟩
  obtain ⟨z1, z2, z3, z4⟩ := m4 i hi
  have lo := z2.lo
  exact ⟨by rw [r]; exact z1, z2.ext z4 e (fun c k h1 h2 => hW _ _ (by omega)), z3.ext z4 e (fun c k h1 h2 => hW _ _ (by omega)), Nat.le_trans z4 e.2.2.1⟩
/-- one design of the ring is written -/
theorem MRg.put {i : Nat} {t : AH} {W : Nat → Nat → Prop} (M : MRg B h Q al dn tt) (hi : i < al) (g : Agr W h t) (hW : ∀ c k, W c k → dW (Q i) c k) (T : TD t (Q i)) : MRg B t Q al dn tt := by
  obtain ⟨m16, m17, m18, m19, m1, m2, m3, m4, m5, m6⟩ := M
  have lo := (m4 i hi).2.1.lo
  have out : ∀ c k, (c < Q i ∨ Q i + 140 ≤ c) → hv t c k = hv h c k := fun c k hc => g.at _ _ (fun w => by have := hW c k w; unfold dW at this; omega)
  refine ⟨by rw [out _ _ (by omega)]; exact m16, by rw [out _ _ (by omega)]; exact m17, by rw [out _ _ (by omega)]; exact m18, by rw [out _ _ (by omega)]; exact m19, m1, m2, m3, fun j hj => ?_, fun j h1 h2 => by rw [out _ _ (by omega)]; exact m5 j h1 h2, m6⟩
  obtain ⟨z1, z2, z3, z4⟩ := m4 j hj
  have lo2 := z2.lo
  refine ⟨by rw [out _ _ (by omega)]; exact z1, z2.agr g (fun c k p w => ?_), ?_, by rw [g.nx]; exact z4⟩
  · have dw := hW c k w
    by_cases e : j = i
    · rw [e] at p; exact dw.2.2 p
    · have hd : Q j + 140 ≤ Q i ∨ Q i + 140 ≤ Q j := by
        rcases Nat.lt_or_gt_of_ne e with z | z
        · exact Or.inl (m6 j i z hi)
        · exact Or.inr (m6 i j z hj)
      have hc : Q j ≤ c ∧ c < Q j + 140 := by
        rcases p with p | p | p | ⟨s, hs, p, _⟩ | ⟨s, hs, p, _⟩ <;> omega
      have d1 := dw.1
      have d2 := dw.2.1
      omega
  · by_cases e : j = i
    · rw [e]; exact T
    · have hd : Q j + 140 ≤ Q i ∨ Q i + 140 ≤ Q j := by
        rcases Nat.lt_or_gt_of_ne e with z | z
        · exact Or.inl (m6 j i z hi)
        · exact Or.inr (m6 i j z hj)
      exact z3.agr g (fun c k h1 h2 w => by
        have dw := hW c k w
        have d1 := dw.1
        have d2 := dw.2.1
        omega)
theorem c_fails (l : LX B n h) (hd : 10 ≤ d) {x : Int} : Vt 0 (cll PP (ev PP (gsF gv) B) d 622 [(2, rf (B + 149)), (0, x)] h) (fun v h' => v = (if 0 < x then 1 else 0) ∧ h' = hset h (B + 149) 0 x) := by
  refine Vt.into (D := 9) hd (Nat.le_of_ble_eq_true rfl) rfl (fun d hd => ?_)
  refine Ends.eq (b622_0 (n := n) (by (repeat' first | assumption | refine LX.setF _ _ ?_ (by decide +kernel) | refine LX.setS ?_ rfl | refine LX.setA ?_ (by first | assumption | omega))) (by first | assumption | omega)) ?_
  refine Ends.sm ⟨_, _, rfl, ?_, rfl⟩
  rw [tst5]
  by_cases e : 0 < x
  · rw [if_pos e, decide_eq_true e]; rfl
  · rw [if_neg e, decide_eq_false e]; rfl
theorem c_beginM (l : LX B n h) (hd : 14 ≤ d) (h2 : hv h (B + 149) 2 = (m : Int)) (hm : m ≤ 8192) (hu : ∀ i, i < m → hv h (B + 150) i = u i) (hr : ∀ i, i < m → 0 ≤ u i ∧ u i < 256) :
    Vd (cll PP (ev PP (gsF gv) B) d 553 [(2, rf (B + 149))] h) (fun h' => Agr (fun c k => c = B + 149 ∧ 2 ≤ k ∧ k ≤ 10) h h' ∧ MgP B h' m u ∧ MgT B h' u m 0 ∧ hv h' (B + 149) 2 = 0) := by
  refine Vd.into (D := 13) hd (Nat.le_of_ble_eq_true rfl) rfl (fun d hd => ?_)
  refine Ends.eq (b553_0 (n := n) (by (repeat' first | assumption | refine LX.setF _ _ ?_ (by decide +kernel) | refine LX.setS ?_ rfl | refine LX.setA ?_ (by first | assumption | omega))) (by first | assumption | omega)) ?_
  rw [h2]
  generalize eh : hset (hset (hset h (B + 149) 3 (m : Int)) (B + 149) 2 0) (B + 149) 4 0 = h1
  have l1 : LX B n h1 := by rw [← eh]; exact LX.setF 149 4 (LX.setF 149 2 (LX.setF 149 3 l (by decide +kernel)) (by decide +kernel)) (by decide +kernel)
  have g1 : Agr (fun c k => c = B + 149 ∧ 2 ≤ k ∧ k ≤ 10) h h1 := by rw [← eh]; exact ((Agr.rf.set ⟨rfl, by decide, by decide⟩).set ⟨rfl, by decide, by decide⟩).set ⟨rfl, by decide, by decide⟩
  have S1 : MgP B h1 m u := ⟨by rw [← eh, hv_set_ne (by omega), hv_set_ne (by omega)]; exact hv_set_at .., fun i hi => by rw [g1.at _ _ (by omega)]; exact hu i hi, hr, hm⟩
  have e4 : hv h1 (B + 149) 4 = ((0 : Nat) : Int) := by rw [← eh]; exact hv_set_at ..
  have e2 : hv h1 (B + 149) 2 = 0 := by rw [← eh, hv_set_ne (by omega)]; exact hv_set_at ..
  refine Ends.cv l1 (by decide +kernel) (c_nextM l1 (by omega) S1 e4 (Nat.zero_le m)) (fun h3 l3 _ _ _ ⟨g3, R3⟩ => ?_)
  refine Ends.eq (b553_22 (n := n) (by (repeat' first | assumption | refine LX.setF _ _ ?_ (by decide +kernel) | refine LX.setS ?_ rfl | refine LX.setA ?_ (by first | assumption | omega))) (by first | assumption | omega)) ?_
  exact Ends.sm ⟨_, rfl, g1.tr g3 (fun c k w => by unfold mgW at w; omega), ⟨by rw [g3.at _ _ (by unfold mgW; omega)]; exact S1.1, fun i hi => by rw [g3.at _ _ (by unfold mgW; omega)]; exact S1.2.1 i hi, hr, hm⟩, R3, by rw [g3.at _ _ (by unfold mgW; omega)]; exact e2⟩
end MDEF
