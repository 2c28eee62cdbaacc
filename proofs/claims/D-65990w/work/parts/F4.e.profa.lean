/-! L3: profiles (desk): points told -/
section PA430
variable {gv : Nat → Int} {B n d s np nl nd nk : Nat} {h : AH} {c : Nat → Int} {ab be dw : Nat → Int} {lv dlv dgk : Nat → Bool} {fr to_ dc : Nat → Nat} {cs : Nat → Cst} {w xa xb xc dr : Nat → Int} {isC gk : Nat → Bool} {Inv : AH → Prop} {W : Nat → Nat → Prop}
set_option maxHeartbeats 4000000 in
/-- behind solving: points are told -/
theorem c_profA {most : Int} {Q : Rs → Prop} (l : LX B n h) (n64 : n ≤ 64) (hd : 414 ≤ d) (hs : s < 6) (hC : ∀ q, Inv q → ∀ z, z < 37368 → hv q (B + 2) z = c z) (i0 : Inv h) (hP : ∀ q q', Inv q → Agr (pfW B) q q' → Inv q') (hW : ∀ c k, W c k → ¬ pfW B c k ∧ c ≠ B + 66 ∧ c ≠ B + 67) (L : LnD c s np nl lv fr to_) (D : DcD c s np nd dlv dc) (h12 : np ≤ 12) (HR : GvR gv B n s nd W dlv dgk dw Inv) (ha : ∀ j, j < 2 * np → hv h (B + 66) (24 * s + j) = ab j ∧ hv h (B + 67) (24 * s + j) = be j)
    (K : ∀ x h', Agr (dpW W B) h h' → Inv h' → PrR n (decide (most = 3)) ab be lv fr to_ nd dlv dc dgk dw x → (x = 0 → PfS B n h' (decide (most = 3)) ab lv fr to_ nd dlv dc dw) → Q ((0, (0, x)), h')) (u4 u5 : AV) : Ends (ev PP (gsF gv) B d 430 13 [(2, rf (B + 56)), (0, (s : Int)), (0, most), (0, 0), u4, u5] [] h) Q := by
  have sk0 : skA s < 23000 := by unfold skA; omega
  have n6 := D.1.2
  have n24 := L.1.2.1
  have ha_ : ∀ {q : AH}, Agr (dpW W B) h q → ∀ p, p < np → ∀ j, j < 2 → hv q (B + 66) (24 * s + (2 * p + j)) = ab (2 * p + j) ∧ hv q (B + 67) (24 * s + (2 * p + j)) = be (2 * p + j) := fun {q} g p hp j hj => by
    rw [g.at _ _ (fun z => by
      rcases z with z | z
      · exact (hW _ _ z).2.1 rfl
      · unfold pfW at z; omega), g.at _ _ (fun z => by
      rcases z with z | z
      · exact (hW _ _ z).2.2 rfl
      · unfold pfW at z; omega)]
    exact ha _ (by omega)
  have liL : ∀ k, k < 24 → liA s k < 30000 := fun k hk => by unfold liA; omega
  have diL : ∀ k, k < 6 → diA s k < 30000 := fun k hk => by unfold diA; omega
  have lvn : ∀ k, lv k = true → k < nl := fun k z => by
    rcases (by omega : k < nl ∨ nl ≤ k) with y | y
    · exact y
    · rw [L.1.2.2 k y] at z; cases z
  have pfin : ∀ (q : AH) (x : Int), Agr (dpW W B) h q → Inv q → x ≠ 0 → PrR n (decide (most = 3)) ab be lv fr to_ nd dlv dc dgk dw x → Q ((0, (0, x)), q) := fun q x g i x0 p => K x q g i p (fun z => absurd z x0)
  -- radii, ends, pairs come later
  have loop3 : ∀ (q0 : AH), LX B n q0 → Agr (dpW W B) h q0 → Inv q0 → St1 B n q0 ab be lv fr to_ 24 → ¬ pA2 n ab be lv fr to_ nd dlv dc → ∀ (u4 u5 : AV), Ends (ev PP (gsF gv) B d 430 219 [(2, rf (B + 56)), (0, (s : Int)), (0, most), (0, 0), u4, u5] [] q0) Q := fun q0 l0 g0 i0 st na2 u4 u5 => c_profB l0 n64 hd hs hC i0 hP hW D h12 HR (fun j hj => by
    rw [g0.at _ _ (fun z => by
      rcases z with z | z
      · exact (hW _ _ z).2.1 rfl
      · unfold pfW at z; omega)]
    exact (ha j hj).1) st na2 (fun x h' g i p z => K x h' (g0.tr g (fun _ _ z => z)) i p z) u4 u5
  -- whether discs are on whole places
  have loop2 : ∀ (r k : Nat) (q : AH) (u4 u5 : AV), k + r = nd → LX B n q → Agr (dpW W B) h q → Inv q → St1 B n q ab be lv fr to_ 24 → (∀ j, j < k → dlv j = true → whB n ab be (dc j) = true) → Ends (ev PP (gsF gv) B d 430 171 [(2, rf (B + 56)), (0, (s : Int)), (0, most), (0, (k : Int)), u4, u5] [] q) Q := by
    intro r
    induction r with
    | zero =>
      intro k q u4 u5 ek lq g iq st ok
      obtain rfl : k = nd := by omega
      obtain ⟨a1, a2⟩ := v398_is (hC _ iq) hs D
      refine Ends.eq (b430_171 (n := n) (by (repeat' first | assumption | refine LX.setF _ _ ?_ (by decide +kernel) | refine LX.setS ?_ rfl | refine LX.setA ?_ (by first | assumption | omega))) (by first | assumption | omega)) ?_
      rw [a2]
      refine Ends.g a1 (Ends.b3 (fun _ => loop3 q lq g iq st (fun z => ?_) _ _) (fun z => absurd z (Int.lt_irrefl _)))
      rcases z with ⟨j, hj, z1, z2⟩ | ⟨j, hj, z1, z2⟩
      · rw [((st j hj).2 z1).2.1, ((st j hj).2 z1).2.2] at z2; cases z2
      · rw [ok j hj z1] at z2; cases z2
    | succ r ih =>
      intro k q u4 u5 ek lq g iq st ok
      obtain ⟨a1, a2⟩ := v398_is (hC _ iq) hs D
      obtain ⟨b1, b2⟩ := v408_is (k := k) (hC _ iq) hs D (by omega)
      obtain ⟨e1, e2, e3⟩ := D.2 k (by omega)
      have next : (dlv k = true → whB n ab be (dc k) = true) → Ends (ev PP (gsF gv) B d 430 211 [(2, rf (B + 56)), (0, (s : Int)), (0, most), (0, (k : Int)), u4, u5] [] q) Q := fun z => by
        refine Ends.eq (b430_211 (n := n) (by (repeat' first | assumption | refine LX.setF _ _ ?_ (by decide +kernel) | refine LX.setS ?_ rfl | refine LX.setA ?_ (by first | assumption | omega))) (by first | assumption | omega)) ?_
        rw [w_succ (by omega)]
        refine ih (k + 1) q _ _ (by omega) lq g iq st (fun j hj y => ?_)
        rcases (by omega : j < k ∨ j = k) with u | u
        · exact ok j u y
        · rw [u] at y ⊢; exact z y
      have dk := diL k (by omega)
      obtain ⟨p1, p2⟩ := cell_is (i := diA s k) (hC _ iq) (by omega)
      refine Ends.eq (b430_171 (n := n) (by (repeat' first | assumption | refine LX.setF _ _ ?_ (by decide +kernel) | refine LX.setS ?_ rfl | refine LX.setA ?_ (by first | assumption | omega))) (by first | assumption | omega)) ?_
      rw [a2, b2, v396_is hs (by omega), p2, e1]
      refine Ends.g a1 (Ends.b3 (fun z => absurd z (by omega)) (fun _ => Ends.g b1 ?_))
      cases ed : dlv k
      · exact Ends.b0 (fun _ => next (fun z => by rw [ed] at z; cases z)) (fun z => absurd rfl z)
      · have dl := e3 ed
        refine Ends.b0 (fun z => absurd z (by decide)) (fun _ => Ends.g p1 ?_)
        refine Ends.ct lq (by decide +kernel) (by decide) (c_isWhole415 (ab := ab) (be := be) lq (by omega) hs (by omega) (ha_ g _ dl)) (fun y q2 l2 _ _ _ ⟨eq2_, ey⟩ => ?_)
        subst eq2_
        refine Ends.eq (b430_206 (n := n) (by (repeat' first | assumption | refine LX.setF _ _ ?_ (by decide +kernel) | refine LX.setS ?_ rfl | refine LX.setA ?_ (by first | assumption | omega))) (by first | assumption | omega)) ?_
        rw [ey]
        cases ew : whB n ab be (dc k)
        · refine Ends.b1 (fun z => absurd rfl z) (fun _ => Ends.sm (pfin _ _ g iq (by decide) (Or.inl ⟨Or.inr ⟨k, by omega, ed, ew⟩, rfl⟩)))
        · exact Ends.b1 (fun _ => next (fun _ => ew)) (fun z => absurd z (by decide))
  -- the lines
  have loop1 : ∀ (r k : Nat) (q : AH) (u4 u5 : AV), k + r = 24 → LX B n q → Agr (dpW W B) h q → Inv q → St1 B n q ab be lv fr to_ k → Ends (ev PP (gsF gv) B d 430 13 [(2, rf (B + 56)), (0, (s : Int)), (0, most), (0, (k : Int)), u4, u5] [] q) Q := by
    intro r
    induction r with
    | zero =>
      intro k q u4 u5 ek lq g iq st
      obtain rfl : k = 24 := by omega
      refine Ends.eq (b430_13 (n := n) (by (repeat' first | assumption | refine LX.setF _ _ ?_ (by decide +kernel) | refine LX.setS ?_ rfl | refine LX.setA ?_ (by first | assumption | omega))) (by first | assumption | omega)) ?_
      exact Ends.b3 (fun _ => loop2 nd 0 q _ _ (by omega) lq g iq st (fun j hj => absurd hj (Nat.not_lt_zero j))) (fun z => absurd z (by decide))
    | succ r ih =>
      intro k q u4 u5 ek lq g iq st
      obtain ⟨b1, b2⟩ := v411_is (k := k) (hC _ iq) hs L (by omega)
      have g1 : Agr (pfW B) q (hset q (B + 77) k (b2i (lv k))) := Agr.rf.set (Or.inl ⟨by omega, by omega⟩)
      have l1 : LX B n (hset q (B + 77) k (b2i (lv k))) := lq.setS rfl
      have i1 := hP _ _ iq g1
      have G1 : Agr (dpW W B) h (hset q (B + 77) k (b2i (lv k))) := g.tr g1 (fun _ _ z => Or.inr z)
      have st1 : St1 B n (hset q (B + 77) k (b2i (lv k))) ab be lv fr to_ k := fun j hj => by
        rw [hv_set_ne (by omega), hv_set_ne (by omega), hv_set_ne (by omega), hv_set_ne (by omega), hv_set_ne (by omega)]
        exact st j hj
      have next : ∀ (q' : AH) (u4 u5 : AV), LX B n q' → Agr (dpW W B) h q' → Inv q' → St1 B n q' ab be lv fr to_ (k + 1) → Ends (ev PP (gsF gv) B d 430 163 [(2, rf (B + 56)), (0, (s : Int)), (0, most), (0, (k : Int)), u4, u5] [] q') Q := fun q' u4 u5 l' g' i' st' => by
        refine Ends.eq (b430_163 (n := n) (by (repeat' first | assumption | refine LX.setF _ _ ?_ (by decide +kernel) | refine LX.setS ?_ rfl | refine LX.setA ?_ (by first | assumption | omega))) (by first | assumption | omega)) ?_
        rw [w_succ (by omega)]
        exact ih (k + 1) q' _ _ (by omega) l' g' i' st'
      have a01 : anar 3 (b2i (lv k)) = b2i (lv k) := an3 (by cases lv k; exact Or.inl rfl; exact Or.inr rfl)
      refine Ends.eq (b430_13 (n := n) (by (repeat' first | assumption | refine LX.setF _ _ ?_ (by decide +kernel) | refine LX.setS ?_ rfl | refine LX.setA ?_ (by first | assumption | omega))) (by first | assumption | omega)) ?_
      rw [b2, a01, tn, hv_set_at]
      have e77 : hv (hset q (B + 77) k (b2i (lv k))) (B + 77) k = b2i (lv k) := hv_set_at _ _ _ _
      obtain ⟨q1, eq1⟩ : ∃ q1, q1 = hset q (B + 77) k (b2i (lv k)) := ⟨_, rfl⟩
      rw [← eq1] at g1 l1 i1 G1 st1 e77 ⊢
      refine Ends.b3 (fun z => absurd z (by omega)) (fun _ => Ends.g b1 (Ends.g ⟨by omega, by omega⟩ ?_))
      cases el : lv k
      · refine Ends.b1 (fun z => absurd rfl z) (fun _ => next q1 _ _ l1 G1 i1 (fun j hj => ?_))
        rcases (by omega : j < k ∨ j = k) with u | u
        · exact st1 j u
        · rw [u, e77, el]
          exact ⟨rfl, fun z => absurd z Bool.false_ne_true⟩
      · have kl := lvn k el
        obtain ⟨f1, f2, f3, f4⟩ := L.2 k kl
        obtain ⟨fp, tp⟩ := f4 el
        have lk := liL k (by omega)
        obtain ⟨p1, p2⟩ := cell_is (i := liA s k) (hC _ i1) (by omega)
        obtain ⟨p3, p4⟩ := cell_is (i := liA s k + 1) (hC _ i1) (by omega)
        rw [v418_is hs (by omega), show bop32 96 ((liA s k : Nat) : Int) 1 = ((liA s k + 1 : Nat) : Int) from addK (k := 1) (by omega), p2, p4, f1, f2]
        refine Ends.b1 (fun _ => Ends.g p1 (Ends.g p3 ?_)) (fun z => absurd z (by decide))
        have bad : whB n ab be (fr k) = false ∨ whB n ab be (to_ k) = false → ∀ (q' : AH), Agr (dpW W B) h q' → Inv q' → LX B n q' → Ends (ev PP (gsF gv) B d 430 93 [(2, rf (B + 56)), (0, (s : Int)), (0, most), (0, (k : Int)), (0, ((fr k : Nat) : Int)), (0, ((to_ k : Nat) : Int))] [] q') Q := fun z q' g' i' l' => by
          refine Ends.eq (b430_93 (n := n) (by (repeat' first | assumption | refine LX.setF _ _ ?_ (by decide +kernel) | refine LX.setS ?_ rfl | refine LX.setA ?_ (by first | assumption | omega))) (by first | assumption | omega)) ?_
          refine Ends.sm (pfin _ _ g' i' (by decide) (Or.inl ⟨Or.inl ⟨k, by omega, el, ?_⟩, rfl⟩))
          rcases z with z | z <;> rw [z]
          · rfl
          · exact Bool.and_false _
        refine Ends.ct l1 (by decide +kernel) (by decide) (c_isWhole415 (ab := ab) (be := be) l1 (by omega) hs (by omega) (ha_ G1 _ fp)) (fun y q2 l2 _ _ _ ⟨eq2_, ey⟩ => ?_)
        subst eq2_
        refine Ends.eq (b430_80 (n := n) (by (repeat' first | assumption | refine LX.setF _ _ ?_ (by decide +kernel) | refine LX.setS ?_ rfl | refine LX.setA ?_ (by first | assumption | omega))) (by first | assumption | omega)) ?_
        rw [ey]
        cases ew : whB n ab be (fr k)
        · exact Ends.b0 (fun _ => bad (Or.inl ew) q2 G1 i1 l2) (fun z => absurd rfl z)
        refine Ends.b0 (fun z => absurd z (by decide)) (fun _ => ?_)
        refine Ends.ct l2 (by decide +kernel) (by decide) (c_isWhole415 (ab := ab) (be := be) l2 (by omega) hs (by omega) (ha_ G1 _ tp)) (fun y q3 l3 _ _ _ ⟨eq3_, ey⟩ => ?_)
        subst eq3_
        refine Ends.eq (b430_90 (n := n) (by (repeat' first | assumption | refine LX.setF _ _ ?_ (by decide +kernel) | refine LX.setS ?_ rfl | refine LX.setA ?_ (by first | assumption | omega))) (by first | assumption | omega)) ?_
        rw [ey]
        cases ew2 : whB n ab be (to_ k)
        · exact Ends.b1 (fun z => absurd rfl z) (fun _ => bad (Or.inr ew2) q3 G1 i1 l3)
        have w1 := whB_is ew
        have w2 := whB_is ew2
        have r0 : hv q3 (B + 66) (24 * s + 2 * fr k) = ab (2 * fr k) := (ha_ G1 _ fp 0 (by decide)).1
        have r1 := (ha_ G1 _ fp 1 (by decide)).1
        have r2 : hv q3 (B + 66) (24 * s + 2 * to_ k) = ab (2 * to_ k) := (ha_ G1 _ tp 0 (by decide)).1
        have r3 := (ha_ G1 _ tp 1 (by decide)).1
        rw [(two_p (p := fr k) (by omega)).2, (two_p (p := fr k) (by omega)).1, (two_p (p := to_ k) (by omega)).2, (two_p (p := to_ k) (by omega)).1]
        simp only [v381_set (show B + 69 ≠ B + 66 by omega), v381_set (show B + 70 ≠ B + 66 by omega), v381_set (show B + 71 ≠ B + 66 by omega), (q381_is (t := q3) (j := 2 * fr k) hs (by omega)).2, (q381_is (t := q3) (j := 2 * fr k + 1) hs (by omega)).2, (q381_is (t := q3) (j := 2 * to_ k) hs (by omega)).2, (q381_is (t := q3) (j := 2 * to_ k + 1) hs (by omega)).2, r0, r1, r2, r3, tn, an0, uop3]
        rw [w32_id (x := ab (2 * fr k)) ⟨by omega, by omega⟩, w32_id (x := ab (2 * fr k + 1)) ⟨by omega, by omega⟩, w32_id (x := ab (2 * to_ k)) ⟨by omega, by omega⟩, w32_id (x := ab (2 * to_ k + 1)) ⟨by omega, by omega⟩]
        refine Ends.b1 (fun _ => Ends.g (q381_is hs (by omega)).1 (Ends.g ⟨by omega, by omega⟩ (Ends.g (q381_is hs (by omega)).1 (Ends.g (q381_is hs (by omega)).1 (Ends.g (q381_is hs (by omega)).1 ?_))))) (fun z => absurd z (by decide))
        have g4 : Agr (pfW B) q3 (hset (hset (hset (hset q3 (B + 69) k (ab (2 * fr k))) (B + 70) k (ab (2 * fr k + 1))) (B + 71) k (ab (2 * to_ k))) (B + 72) k (ab (2 * to_ k + 1))) := (((Agr.rf.set (Or.inl ⟨by omega, by omega⟩)).set (Or.inl ⟨by omega, by omega⟩)).set (Or.inl ⟨by omega, by omega⟩)).set (Or.inl ⟨by omega, by omega⟩)
        refine next _ _ _ ((((l3.setS rfl).setS rfl).setS rfl).setS rfl) (G1.tr g4 (fun _ _ z => Or.inr z)) (hP _ _ i1 g4) (fun j hj => ?_)
        rcases (by omega : j < k ∨ j = k) with u | u
        · obtain ⟨s1, s2⟩ := st1 j u
          refine ⟨by rw [hv_set_ne (by omega), hv_set_ne (by omega), hv_set_ne (by omega), hv_set_ne (by omega)]; exact s1, fun z => ?_⟩
          obtain ⟨⟨c1, c2, c3, c4⟩, c5⟩ := s2 z
          refine ⟨⟨?_, ?_, ?_, ?_⟩, c5⟩
          · rw [hv_set_ne (by omega), hv_set_ne (by omega), hv_set_ne (by omega), hv_set_ne (by omega)]; exact c1
          · rw [hv_set_ne (by omega), hv_set_ne (by omega), hv_set_ne (by omega), hv_set_ne (by omega)]; exact c2
          · rw [hv_set_ne (by omega), hv_set_ne (by omega), hv_set_ne (by omega), hv_set_ne (by omega)]; exact c3
          · rw [hv_set_ne (by omega), hv_set_ne (by omega), hv_set_ne (by omega), hv_set_ne (by omega)]; exact c4
        · rw [u]
          refine ⟨by rw [hv_set_ne (by omega), hv_set_ne (by omega), hv_set_ne (by omega), hv_set_ne (by omega)]; exact e77, fun _ => ⟨⟨?_, ?_, ?_, ?_⟩, ew, ew2⟩⟩
          · rw [hv_set_ne (by omega), hv_set_ne (by omega), hv_set_ne (by omega), hv_set_at]; rfl
          · rw [hv_set_ne (by omega), hv_set_ne (by omega), hv_set_at]; rfl
          · rw [hv_set_ne (by omega), hv_set_at]; rfl
          · rw [hv_set_at]; rfl
  exact loop1 24 0 h u4 u5 (by omega) l Agr.rf i0 (fun j hj => absurd hj (Nat.not_lt_zero j))
end PA430
