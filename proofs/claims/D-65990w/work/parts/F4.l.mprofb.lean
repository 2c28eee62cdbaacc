/-! L3: profiles (model): ends and pairs -/
section PMB
variable {gv : Nat → Int} {B n d w1 : Nat} {h : AH} {lv : Nat → Bool} {ab : Nat → Int} {fr to_ : Nat → Nat}
set_option maxHeartbeats 2000000 in
theorem c_profMB {Q : Rs → Prop} (l : LX B n h) (n64 : n ≤ 64) (hd : 14 ≤ d) (S : SgM B h lv (lU0 ab fr) (lV0 ab fr) (lU0 ab to_) (lV0 ab to_)) (G : ∀ k, k < 24 → lv k = true → SgK n (lU0 ab fr) (lV0 ab fr) (lU0 ab to_) (lV0 ab to_) (lDU ab fr to_) (lDV ab fr to_) (lSZ ab fr to_) k) (K : ∀ x, (pA5 ab lv fr to_ ∧ x = 5) ∨ (¬ pA5 ab lv fr to_ ∧ ((pA6 ab lv fr to_ ∧ x = 6) ∨ (¬ pA6 ab lv fr to_ ∧ x = 0))) → Q ((0, (0, x)), h)) (x2 : Int) (u4 : AV) : Ends (ev PP (gsF gv) B d 785 444 [(2, rf (B + 149)), (2, rf w1), (0, x2), (0, 0), u4] [] h) Q := by
  have c24 : cntN lv 24 ≤ 24 := cntN_le _ _
  have pairs : ¬ pA5 ab lv fr to_ → ∀ (r a : Nat) (u4 : AV), a + r = cntN lv 24 → (∀ j m, j < m → m < 24 → lv j = true → lv m = true → cntN lv m < a → ¬ MtSk (lU0 ab fr) (lV0 ab fr) (lDU ab fr to_) (lDV ab fr to_) (lSZ ab fr to_) j m) → Ends (ev PP (gsF gv) B d 785 502 [(2, rf (B + 149)), (2, rf w1), (0, x2), (0, (a : Int)), u4] [] h) Q := by
    intro n5 r
    induction r with
    | zero =>
      intro a u4 ea no
      obtain rfl : a = cntN lv 24 := by omega
      refine Ends.eq (b785_502 (n := n) (by (repeat' first | assumption | refine LX.setF _ _ ?_ (by decide +kernel) | refine LX.setS ?_ rfl | refine LX.setA ?_ (by first | assumption | omega))) (by first | assumption | omega)) ?_
      rw [S.1]
      refine Ends.b3 (fun _ => Ends.sm (K 0 (Or.inr ⟨n5, Or.inr ⟨?_, rfl⟩⟩))) (fun z => absurd z (Int.lt_irrefl _))
      rintro ⟨j, m, h1, h2, h3, h4, h5⟩
      exact no j m h1 h2 h3 h4 (cnt_ltl h2 h4) h5
    | succ r ih =>
      intro a u4 ea no
      obtain ⟨ka, hka, lka, cka⟩ := cnt_at (S := lv) 24 a (by omega)
      have inner : ∀ (t b : Nat), b + t = a → (∀ j, j < ka → lv j = true → cntN lv j < b → ¬ MtSk (lU0 ab fr) (lV0 ab fr) (lDU ab fr to_) (lDV ab fr to_) (lSZ ab fr to_) j ka) → Ends (ev PP (gsF gv) B d 785 513 [(2, rf (B + 149)), (2, rf w1), (0, x2), (0, (a : Int)), (0, (b : Int))] [] h) Q := by
        intro t
        induction t with
        | zero =>
          intro b eb no2
          obtain rfl : b = a := by omega
          refine Ends.eq (b785_513 (n := n) (by (repeat' first | assumption | refine LX.setF _ _ ?_ (by decide +kernel) | refine LX.setS ?_ rfl | refine LX.setA ?_ (by first | assumption | omega))) (by first | assumption | omega)) ?_
          refine Ends.b3 (fun _ => ?_) (fun z => absurd z (Int.lt_irrefl _))
          rw [w_succ (by omega)]
          refine ih (b + 1) _ (by omega) (fun j m h1 h2 h3 h4 h5 => ?_)
          rcases (by omega : cntN lv m < b ∨ cntN lv m = b) with y | y
          · exact no j m h1 h2 h3 h4 y
          · have em : m = ka := by
              rcases (by omega : m < ka ∨ m = ka ∨ ka < m) with v | v | v
              · have := cnt_ltl v h4; omega
              · exact v
              · have := cnt_ltl v lka; omega
            rw [em] at h1 ⊢
            exact no2 j h1 h3 (by rw [← cka]; exact cnt_ltl h1 h3)
        | succ t iht =>
          intro b eb no2
          obtain ⟨kb, hkb, lkb, ckb⟩ := cnt_at (S := lv) 24 b (by omega)
          have lt : kb < ka := by
            rcases (by omega : kb < ka ∨ kb = ka ∨ ka < kb) with v | v | v
            · exact v
            · rw [v] at ckb; omega
            · have := cnt_ltl v lka; omega
          refine Ends.eq (b785_513 (n := n) (by (repeat' first | assumption | refine LX.setF _ _ ?_ (by decide +kernel) | refine LX.setS ?_ rfl | refine LX.setA ?_ (by first | assumption | omega))) (by first | assumption | omega)) ?_
          refine Ends.b3 (fun z => absurd z (by omega)) (fun _ => ?_)
          have M := c_meet747 (gv := gv) (d := d) l n64 (by omega) hka hkb S lka lkb (G ka hka lka) (G kb hkb lkb)
          rw [cka, ckb] at M
          refine Ends.ct l (by decide +kernel) (by decide) M (fun y q2 l2 _ _ _ ⟨eq2_, ey⟩ => ?_)
          subst eq2_
          refine Ends.eq (b785_526 (n := n) (by (repeat' first | assumption | refine LX.setF _ _ ?_ (by decide +kernel) | refine LX.setS ?_ rfl | refine LX.setA ?_ (by first | assumption | omega))) (by first | assumption | omega)) ?_
          rcases ey with ⟨ey, mt⟩ | ⟨ey, mt⟩
          · rw [ey]
            exact Ends.b0 (fun z => absurd z (by decide)) (fun _ => Ends.sm (K 6 (Or.inr ⟨n5, Or.inl ⟨⟨kb, ka, lt, hka, lkb, lka, mt.sym⟩, rfl⟩⟩)))
          · rw [ey]
            refine Ends.b0 (fun _ => ?_) (fun z => absurd rfl z)
            rw [w_succ (by omega)]
            refine iht (b + 1) (by omega) (fun j h1 h2 h3 => ?_)
            rcases (by omega : cntN lv j < b ∨ cntN lv j = b) with y | y
            · exact no2 j h1 h2 y
            · have ej : j = kb := by
                rcases (by omega : j < kb ∨ j = kb ∨ kb < j) with v | v | v
                · have := cnt_ltl v h2; omega
                · exact v
                · have := cnt_ltl v lkb; omega
              rw [ej]
              exact fun z => mt z.sym
      refine Ends.eq (b785_502 (n := n) (by (repeat' first | assumption | refine LX.setF _ _ ?_ (by decide +kernel) | refine LX.setS ?_ rfl | refine LX.setA ?_ (by first | assumption | omega))) (by first | assumption | omega)) ?_
      rw [S.1]
      exact Ends.b3 (fun z => absurd z (by omega)) (fun _ => inner a 0 (by omega) (fun j _ _ h3 => absurd h3 (Nat.not_lt_zero _)))
  have ends_ : ∀ (r i : Nat) (u4 : AV), i + r = cntN lv 24 → (∀ j, j < 24 → lv j = true → cntN lv j < i → sumN (enF lv (lU0 ab fr) (lV0 ab fr) (lU0 ab to_) (lV0 ab to_) (lU0 ab fr j) (lV0 ab fr j)) 24 = 2 ∧ sumN (enF lv (lU0 ab fr) (lV0 ab fr) (lU0 ab to_) (lV0 ab to_) (lU0 ab to_ j) (lV0 ab to_ j)) 24 = 2) → Ends (ev PP (gsF gv) B d 785 444 [(2, rf (B + 149)), (2, rf w1), (0, x2), (0, (i : Int)), u4] [] h) Q := by
    intro r
    induction r with
    | zero =>
      intro i u4 ei ok
      obtain rfl : i = cntN lv 24 := by omega
      refine Ends.eq (b785_444 (n := n) (by (repeat' first | assumption | refine LX.setF _ _ ?_ (by decide +kernel) | refine LX.setS ?_ rfl | refine LX.setA ?_ (by first | assumption | omega))) (by first | assumption | omega)) ?_
      rw [S.1]
      refine Ends.b3 (fun _ => pairs (fun ⟨k, h1, h2, h3⟩ => h3 (ok k h1 h2 (cnt_ltl h1 h2))) (cntN lv 24) 0 _ (by omega) (fun _ _ _ _ _ _ h5 => absurd h5 (Nat.not_lt_zero _))) (fun z => absurd z (Int.lt_irrefl _))
    | succ r ih =>
      intro i u4 ei ok
      obtain ⟨k, hk, lk, ck⟩ := cnt_at (S := lv) 24 i (by omega)
      obtain ⟨a1, a2, a3, a4⟩ := S.2 k hk lk
      rw [ck] at a1 a2 a3 a4
      have bad : ¬ (sumN (enF lv (lU0 ab fr) (lV0 ab fr) (lU0 ab to_) (lV0 ab to_) (lU0 ab fr k) (lV0 ab fr k)) 24 = 2 ∧ sumN (enF lv (lU0 ab fr) (lV0 ab fr) (lU0 ab to_) (lV0 ab to_) (lU0 ab to_ k) (lV0 ab to_ k)) 24 = 2) → Ends (ev PP (gsF gv) B d 785 492 [(2, rf (B + 149)), (2, rf w1), (0, x2), (0, (i : Int)), u4] [] h) Q := fun z => by
        refine Ends.eq (b785_492 (n := n) (by (repeat' first | assumption | refine LX.setF _ _ ?_ (by decide +kernel) | refine LX.setS ?_ rfl | refine LX.setA ?_ (by first | assumption | omega))) (by first | assumption | omega)) ?_
        exact Ends.sm (K 5 (Or.inl ⟨⟨k, hk, lk, z⟩, rfl⟩))
      refine Ends.eq (b785_444 (n := n) (by (repeat' first | assumption | refine LX.setF _ _ ?_ (by decide +kernel) | refine LX.setS ?_ rfl | refine LX.setA ?_ (by first | assumption | omega))) (by first | assumption | omega)) ?_
      simp only [tn]
      rw [S.1, a1, a2]
      refine Ends.b3 (fun z => absurd z (by omega)) (fun _ => Ends.g ⟨by omega, by omega⟩ ?_)
      refine Ends.ct l (by decide +kernel) (by decide) (c_endsAt611 l (by omega) S) (fun y q2 l2 _ _ _ ⟨eq2_, ey⟩ => ?_)
      subst eq2_
      refine Ends.eq (b785_468 (n := n) (by (repeat' first | assumption | refine LX.setF _ _ ?_ (by decide +kernel) | refine LX.setS ?_ rfl | refine LX.setA ?_ (by first | assumption | omega))) (by first | assumption | omega)) ?_
      rw [ey, tn, a3, a4]
      refine Ends.b1 (fun z => bad (fun y => z (by rw [y.1]; rfl))) (fun z => Ends.g ⟨by omega, by omega⟩ ?_)
      refine Ends.ct l2 (by decide +kernel) (by decide) (c_endsAt611 l2 (by omega) S) (fun y q3 l3 _ _ _ ⟨eq3_, ey⟩ => ?_)
      subst eq3_
      refine Ends.eq (b785_488 (n := n) (by (repeat' first | assumption | refine LX.setF _ _ ?_ (by decide +kernel) | refine LX.setS ?_ rfl | refine LX.setA ?_ (by first | assumption | omega))) (by first | assumption | omega)) ?_
      rw [ey]
      refine Ends.b0 (fun z2 => ?_) (fun z => bad (fun y => z (by rw [y.2]; rfl)))
      rw [w_succ (by omega)]
      refine ih (i + 1) _ (by omega) (fun j hj y cj => ?_)
      rcases (by omega : cntN lv j < i ∨ cntN lv j = i) with u | u
      · exact ok j hj y u
      · have ej : j = k := by
          rcases (by omega : j < k ∨ j = k ∨ k < j) with v | v | v
          · have := cnt_ltl v y; omega
          · exact v
          · have := cnt_ltl v lk; omega
        rw [ej]
        exact ⟨by omega, by omega⟩
  exact ends_ (cntN lv 24) 0 u4 (by omega) (fun j _ _ cj => absurd cj (Nat.not_lt_zero _))
end PMB
