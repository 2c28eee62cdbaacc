/-! L3: Signs: next, open, isWord, need, wrong -/
section NEXT
variable {gv : Nat → Int} {B n d o a m : Nat} {h : AH} {u : Nat → Int}
/-- the sign that stands at p was read -/
def SgT (h' : AH) (o : Nat) (u : Nat → Int) (m p : Nat) : Prop := hv h' o 2 = (tkK u m p : Int) ∧ hv h' o 3 = (tkF u m p : Int) ∧ hv h' o 4 = (tkT u m p : Int) ∧ hv h' o 5 = tkS u m p ∧ (tkK u m p = 2 → hv h' o 6 = nAb u m (tkF u m p) ∧ hv h' o 7 = nBe u m (tkF u m p))
theorem StrA.sg {t : AH} {x : Int} {s : List Int} (S : StrA gv h x s) (ho : YO B o h) (g : Agr (sgW o) h t) : StrA gv t x s := by
  obtain ⟨a1, a2, a3, a4, a5, a6, a7, a8⟩ := S
  have n1 : ad x ≠ o := fun e => by rw [e, ho.1] at a2; exact absurd (congrArg Prod.snd a2) (by show ¬ (12 : Nat) = 29; decide)
  have n2 : ad (hv h (ad x) 0) ≠ o := fun e => by rw [e, ho.1] at a4; exact absurd (congrArg Prod.fst a4) (by show ¬ (1 : Nat) = 4; decide)
  have e0 : hv t (ad x) 0 = hv h (ad x) 0 := g.at _ _ (fun z => n1 z.1)
  refine ⟨a1, by rw [g.hk]; exact a2, by rw [e0]; exact a3, by rw [e0, g.hk]; exact a4, fun i c hc => ?_, by rw [g.at _ _ (fun z => n1 z.1)]; exact a6, a7, a8⟩
  rw [e0, g.at _ _ (fun z => n2 z.1)]; exact a5 i c hc
theorem tw_is {c e : Int} (h1 : 0 ≤ c) (h2 : c < 256) (h3 : 0 ≤ e) (h4 : e < 256) : bop32 128 (bop32 120 c 8) e = c * 256 + e := by
  rw [or_lo h3 h4]; exact w32_id ⟨by omega, by omega⟩
theorem it_is {c e : Int} (h1 : 0 ≤ c) (h2 : c < 256) (h4 : e < 256) : cond (tst 2 e 0) (0 : Int) (cond (tst 0 (bop32 128 (bop32 120 c 8) e) 31868) 1 (cond (tst 0 (bop32 128 (bop32 120 c 8) e) 9766) 1 (cond (tst 0 (bop32 128 (bop32 120 c 8) e) 15677) 1 (cond (tst 0 (bop32 128 (bop32 120 c 8) e) 8509) 1 (cond (tst 0 (bop32 128 (bop32 120 c 8) e) 15421) 1 (cond (tst 1 (bop32 128 (bop32 120 c 8) e) 15933) 0 1)))))) = if two2 c e then 1 else 0 := by
  unfold two2
  by_cases h3 : 0 ≤ e
  · rw [tw_is h1 h2 h3 h4, tst2, decide_eq_false (show ¬ e < 0 by omega), decide_eq_true h3]
    simp only [tst0, tst1, cond_false, Bool.true_and]
    generalize c * 256 + e = w
    by_cases e1 : w = 31868
    · simp [e1]
    by_cases e2 : w = 9766
    · simp [e2]
    by_cases e3 : w = 15677
    · simp [e3]
    by_cases e4 : w = 8509
    · simp [e4]
    by_cases e5 : w = 15421
    · simp [e5]
    by_cases e6 : w = 15933
    · simp [e6]
    simp [e1, e2, e3, e4, e5, e6]
  · rw [tst2, decide_eq_true (show e < 0 by omega), decide_eq_false h3]; simp
theorem tk_word {p : Nat} (h1 : isL (chr u m (tkF u m p)) = true) : ¬ chr u m (tkF u m p) < 0 := by
  intro q
  unfold isL at h1
  simp at h1
  omega
theorem c_sgNext (l : LX B n h) (hd : 16 ≤ d) (S : SgP B h o a m u) (T : StrA gv h (gv 47) oneL) {p : Nat} (h4 : hv h o 4 = (p : Int)) (hp : p ≤ m) :
    Vd (cll PP (ev PP (gsF gv) B) d 373 [(2, (rf o))] h) (fun h' => Agr (sgW o) h h' ∧ SgT h' o u m p) := by
  have hm := S.2.2.2.2.2
  have hu := S.hu
  have ho := S.1
  refine Vd.into (D := 15) hd (Nat.le_of_ble_eq_true rfl) rfl (fun d hd => ?_)
  refine Ends.eq (b373_0 (n := n) (by (repeat' first | assumption | refine LX.setF _ _ ?_ (by decide +kernel) | refine LX.setS ?_ rfl | refine LX.setA ?_ (by first | assumption | omega))) (by first | assumption | omega) (by first | assumption | omega)) ?_
  rw [h4]
  have l0 : LX B n (hset h o 3 (p : Int)) := S.lx l
  refine lpm (fun (i : Nat) => m - (p + i)) (fun (i : Nat) L q => ∃ u1 u2 u3 : AV, L = [(2, rf o), u1, u2, u3] ∧ LX B n q ∧ Agr (sgW o) h q ∧ tkF u m p = en isS u m (p + i) ∧ p + i ≤ m ∧ hv q o 3 = ((p + i : Nat) : Int)) ?_ (0) ⟨_, _, _, rfl, (by (repeat' first | assumption | refine LX.setF _ _ ?_ (by decide +kernel) | refine LX.setS ?_ rfl | refine LX.setA ?_ (by assumption))), ?_, ?_⟩
  · rintro i _ q ⟨uq0, uq1, uq2, rfl, lq, gq, ⟨i1, i2, i3⟩⟩ ihi
    have Sq := S.agr gq
    have ho := Sq.1
    refine Ends.eq (b373_8 (n := n) (by (repeat' first | assumption | refine LX.setF _ _ ?_ (by decide +kernel) | refine LX.setS ?_ rfl | refine LX.setA ?_ (by first | assumption | omega))) (by first | assumption | omega) (by first | assumption | omega)) ?_
    rw [i3, Sq.by]
    refine Ends.g (Sq.q _) ?_
    have cr := chr_r (i := p + i) hu
    have cr2 := chr_r (i := p + i + 1) hu
    cases hS : isS (chr u m (p + i)) with
    | true =>
      have e32 : chr u m (p + i) = 32 := of_decide_eq_true hS
      obtain ⟨e1, e2⟩ := en_t (P := isS) rfl hS
      rw [e32]
      refine Ends.b1 (fun z => absurd rfl z) (fun _ => ?_)
      rw [b96_1 (by omega)]
      have lq2 := Sq.lx (k := 3) (v := ((p + i + 1 : Nat) : Int)) lq
      refine ihi (i + 1) _ _ ?_ ⟨_, _, _, rfl, (by (repeat' first | assumption | refine LX.setF _ _ ?_ (by decide +kernel) | refine LX.setS ?_ rfl | refine LX.setA ?_ (by assumption))), ?_, ?_⟩
      · omega
      · exact gq.set ⟨rfl, by decide⟩
      · exact ⟨by rw [i1, e1]; rfl, by omega, hv_set_at ..⟩
    | false =>
      have e32 : chr u m (p + i) ≠ 32 := of_decide_eq_false hS
      rw [en_f hS] at i1
      refine Ends.b1 (fun _ => ?_) (fun z => absurd z e32)
      have S1 : SgP B (hset (hset q o 4 ((p + i : Nat) : Int)) o 5 (-1)) o a m u := (Sq.s (k := 4) (by decide)).s (by decide)
      have l1 : LX B n (hset (hset q o 4 ((p + i : Nat) : Int)) o 5 (-1)) := (Sq.s (k := 4) (v := ((p + i : Nat) : Int)) (by decide)).lx (Sq.lx lq)
      have g1 : Agr (sgW o) h (hset (hset q o 4 ((p + i : Nat) : Int)) o 5 (-1)) := (gq.set ⟨rfl, by decide⟩).set ⟨rfl, by decide⟩
      have f3 : hv (hset (hset q o 4 ((p + i : Nat) : Int)) o 5 (-1)) o 3 = ((p + i : Nat) : Int) := by rw [hv_set_ne (by omega), hv_set_ne (by omega)]; exact i3
      have f4 : hv (hset (hset q o 4 ((p + i : Nat) : Int)) o 5 (-1)) o 4 = ((p + i : Nat) : Int) := by rw [hv_set_ne (by omega)]; exact hv_set_at ..
      have f5 : hv (hset (hset q o 4 ((p + i : Nat) : Int)) o 5 (-1)) o 5 = -1 := hv_set_at ..
      rw [S1.by, b96_1 (by omega), (S1.s (k := 2) (v := (3 : Int)) (by decide)).by]
      refine Ends.g (S1.q _) ?_
      generalize hq1 : hset (hset q o 4 ((p + i : Nat) : Int)) o 5 (-1) = q1 at *
      have ho := S1.1
      have eF : tkF u m p = p + i := i1
      refine Ends.b3 (fun c0 => ?_) (fun c0 => ?_)
      · have n0 : ¬ chr u m (p + i) < 0 := by omega
        rw [v370_is]
        cases hL : isL (chr u m (p + i)) with
        | true =>
          refine Ends.b0 (fun z => absurd z (by decide)) (fun _ => ?_)
          have kk : tkK u m p = if en isW u m (p + i) - (p + i) ≤ 12 then 1 else 3 := by unfold tkK; rw [eF, if_neg n0, hL]; rfl
          have kt : tkT u m p = en isW u m (p + i) := by unfold tkT; rw [eF, if_neg n0, hL]; rfl
          have ks : tkS u m p = -1 := by unfold tkS; rw [eF, if_pos (Or.inr (Or.inl hL))]
          generalize hx1 : chr u m (p + i) = x1c
          refine lpm (fun (j : Nat) => m - (p + i + j)) (fun (j : Nat) L r => ∃ u2 u3 : AV, L = [(2, rf o), (0, x1c), u2, u3] ∧ LX B n r ∧ Agr (sgW o) h r ∧ en isW u m (p + i) = en isW u m (p + i + j) ∧ p + i + j ≤ m ∧ hv r o 3 = ((p + i : Nat) : Int) ∧ hv r o 4 = ((p + i + j : Nat) : Int) ∧ hv r o 5 = -1) ?_ (0) ⟨_, _, rfl, (by (repeat' first | assumption | refine LX.setF _ _ ?_ (by decide +kernel) | refine LX.setS ?_ rfl | refine LX.setA ?_ (by assumption))), ?_, ?_⟩
          · rintro j _ r ⟨ur0, ur1, rfl, lr, gr, ⟨k1, k2, k3, k4, k5⟩⟩ ihj
            have Sr := S.agr gr
            have ho := Sr.1
            have more : isW (chr u m (p + i + j)) = true → Ends (ev PP (gsF gv) B d 373 116 [(2, rf o), (0, x1c), ur0, ur1] [] r) (fun r => ∃ h', r = ((0, (9, 0)), h') ∧ Agr (sgW o) h h' ∧ SgT h' o u m p) := by
              intro hw
              obtain ⟨e1, e2⟩ := en_t (P := isW) rfl hw
              refine Ends.eq (b373_116 (n := n) (by (repeat' first | assumption | refine LX.setF _ _ ?_ (by decide +kernel) | refine LX.setS ?_ rfl | refine LX.setA ?_ (by first | assumption | omega))) (by first | assumption | omega) (by first | assumption | omega)) ?_
              rw [k4, b96_1 (by omega)]
              have lr2 := Sr.lx (k := 4) (v := ((p + i + j + 1 : Nat) : Int)) lr
              refine ihj (j + 1) _ _ ?_ ⟨_, _, rfl, (by (repeat' first | assumption | refine LX.setF _ _ ?_ (by decide +kernel) | refine LX.setS ?_ rfl | refine LX.setA ?_ (by assumption))), ?_, ?_⟩
              · omega
              · exact gr.set ⟨rfl, by decide⟩
              · refine ⟨by rw [k1, e1]; rfl, by omega, ?_, by rw [hv_set_at]; rfl, ?_⟩
                · rw [hv_set_ne (by omega)]; exact k3
                · rw [hv_set_ne (by omega)]; exact k5
            refine Ends.eq (b373_75 (n := n) (by (repeat' first | assumption | refine LX.setF _ _ ?_ (by decide +kernel) | refine LX.setS ?_ rfl | refine LX.setA ?_ (by first | assumption | omega))) (by first | assumption | omega) (by first | assumption | omega)) ?_
            rw [k4, Sr.by, v370_is, v369_is]
            refine Ends.g (Sr.q _) ?_
            cases hL2 : isL (chr u m (p + i + j)) with
            | true => exact Ends.b1 (fun _ => more (by unfold isW; rw [hL2]; rfl)) (fun z => absurd z (by decide))
            | false =>
              refine Ends.b1 (fun z => absurd rfl z) (fun _ => ?_)
              cases hD2 : isD (chr u m (p + i + j)) with
              | true => exact Ends.b1 (fun _ => more (by unfold isW; rw [hD2, Bool.or_true]; rfl)) (fun z => absurd z (by decide))
              | false =>
                refine Ends.b1 (fun z => absurd rfl z) (fun _ => Ends.b1 (fun z => ?_) (fun z => more (by unfold isW; rw [decide_eq_true z, Bool.or_true])))
                have hW : isW (chr u m (p + i + j)) = false := by unfold isW; rw [hL2, hD2, decide_eq_false z]; rfl
                rw [en_f hW] at k1
                rw [k3, subNN (by omega) (by omega), show p + i + j - (p + i) = j by omega, tst5]
                have ek : cond (!decide ((12 : Int) < (j : Int))) (1 : Int) 3 = ((tkK u m p : Nat) : Int) := by
                  rw [kk, k1, show p + i + j - (p + i) = j by omega]
                  by_cases e : j ≤ 12
                  · rw [if_pos e, decide_eq_false (by omega)]; rfl
                  · rw [if_neg e, decide_eq_true (by omega)]; rfl
                rw [ek]
                have lr2 := Sr.lx (k := 2) (v := ((tkK u m p : Nat) : Int)) lr
                have ho := (Sr.s (k := 2) (v := ((tkK u m p : Nat) : Int)) (by decide)).1
                refine Ends.eq (b373_295 (n := n) (by (repeat' first | assumption | refine LX.setF _ _ ?_ (by decide +kernel) | refine LX.setS ?_ rfl | refine LX.setA ?_ (by first | assumption | omega))) (by first | assumption | omega)) ?_
                refine Ends.sm ⟨_, rfl, gr.set ⟨rfl, by decide⟩, hv_set_at .., ?_, ?_, ?_, fun k2' => ?_⟩
                · rw [hv_set_ne (by omega), eF]; exact k3
                · rw [hv_set_ne (by omega), kt, k1]; exact k4
                · rw [hv_set_ne (by omega), ks]; exact k5
                · rw [kk] at k2'; split at k2' <;> omega
          · exact g1
          · exact ⟨rfl, by omega, f3, f4, f5⟩
        | false =>
          refine Ends.b0 (fun _ => ?_) (fun z => absurd rfl z)
          rw [v369_is]
          cases hD : isD (chr u m (p + i)) with
          | true =>
            refine Ends.b0 (fun z => absurd z (by decide)) (fun _ => ?_)
            refine Ends.cv l1 (by decide +kernel) (c_sgNumber l1 (by omega) S1 f3 f4 f5 (by omega)) (fun h2 l2 _ _ _ ⟨g2, N1, N2, N3, N4, N5⟩ => ?_)
            have ho := (S1.agr g2).1
            refine Ends.eq (b373_166 (n := n) (by (repeat' first | assumption | refine LX.setF _ _ ?_ (by decide +kernel) | refine LX.setS ?_ rfl | refine LX.setA ?_ (by first | assumption | omega))) (by first | assumption | omega)) ?_
            refine Ends.eq (b373_295 (n := n) (by (repeat' first | assumption | refine LX.setF _ _ ?_ (by decide +kernel) | refine LX.setS ?_ rfl | refine LX.setA ?_ (by first | assumption | omega))) (by first | assumption | omega)) ?_
            have kk : tkK u m p = if nOK u m (p + i) then 2 else 3 := by unfold tkK; rw [eF, if_neg n0, hL, hD]; rfl
            refine Ends.sm ⟨_, rfl, g1.tr g2 (fun _ _ z => z), ?_, by rw [eF]; exact N2, ?_, ?_, fun k2' => ?_⟩
            · rw [N1, kk]; split <;> rfl
            · rw [N3]; unfold tkT; rw [eF, if_neg n0, hL, hD]; rfl
            · rw [N4]; unfold tkS; rw [eF, if_pos (Or.inr (Or.inr hD))]
            · rw [eF]; refine N5 ?_
              rw [kk] at k2'
              split at k2'
              · next z => exact z
              · omega
          | false =>
            refine Ends.b0 (fun _ => ?_) (fun z => absurd rfl z)
            have S2 : SgP B (hset q1 o 2 3) o a m u := S1.s (by decide)
            have l2 : LX B n (hset q1 o 2 3) := S1.lx l1
            have g2 : Agr (sgW o) h (hset q1 o 2 3) := g1.set ⟨rfl, by decide⟩
            have ho := S2.1
            have kk : tkK u m p = 3 := by unfold tkK; rw [eF, if_neg n0, hL, hD]; rfl
            have kt : tkT u m p = p + i + if two2 (chr u m (p + i)) (chr u m (p + i + 1)) then 2 else 1 := by unfold tkT; rw [eF, if_neg n0, hL, hD]; rfl
            have ks : tkS u m p = sgc (chr u m (p + i)) (chr u m (p + i + 1)) := by
              unfold tkS
              rw [eF, if_neg (fun z => by rcases z with z | z | z; exact n0 z; rw [hL] at z; cases z; rw [hD] at z; cases z)]
            rw [it_is (by omega) cr.2 cr2.2]
            refine Ends.g (S2.q _) ?_
            have fin : ∀ (r : AH) (x1 x2 : Int), Agr (sgW o) h r → LX B n r → hv r o 2 = 3 → hv r o 3 = ((p + i : Nat) : Int) → hv r o 4 = ((p + i : Nat) : Int) → hv r o 5 = tkS u m p → Ends (ev PP (gsF gv) B d 373 277 [(2, rf o), (0, x1), (0, x2), (0, if two2 (chr u m (p + i)) (chr u m (p + i + 1)) = true then (1 : Int) else 0)] [] r) (fun r => ∃ h', r = ((0, (9, 0)), h') ∧ Agr (sgW o) h h' ∧ SgT h' o u m p) := by
              intro r x1 x2 gr lr r2 r3 r4 r5
              have Sr := S.agr gr
              have ho := Sr.1
              refine Ends.eq (b373_277 (n := n) (by (repeat' first | assumption | refine LX.setF _ _ ?_ (by decide +kernel) | refine LX.setS ?_ rfl | refine LX.setA ?_ (by first | assumption | omega))) (by first | assumption | omega) (by first | assumption | omega)) ?_
              have e7 : bop32 96 (hv r o 4) (cond (tst 0 (if two2 (chr u m (p + i)) (chr u m (p + i + 1)) = true then (1 : Int) else 0) 0) 1 2) = ((tkT u m p : Nat) : Int) := by
                rw [r4, kt, tst0]
                cases two2 (chr u m (p + i)) (chr u m (p + i + 1)) with
                | true => exact addNN (y := 2) (by omega)
                | false => exact addNN (y := 1) (by omega)
              rw [e7]
              have lr2 := Sr.lx (k := 4) (v := ((tkT u m p : Nat) : Int)) lr
              have ho := (Sr.s (k := 4) (v := ((tkT u m p : Nat) : Int)) (by decide)).1
              refine Ends.eq (b373_295 (n := n) (by (repeat' first | assumption | refine LX.setF _ _ ?_ (by decide +kernel) | refine LX.setS ?_ rfl | refine LX.setA ?_ (by first | assumption | omega))) (by first | assumption | omega)) ?_
              refine Ends.sm ⟨_, rfl, gr.set ⟨rfl, by decide⟩, ?_, ?_, hv_set_at .., ?_, fun z => by omega⟩
              · rw [hv_set_ne (by omega), r2, kk]; rfl
              · rw [hv_set_ne (by omega), r3, eF]
              · rw [hv_set_ne (by omega)]; exact r5
            have r3 : hv (hset q1 o 2 3) o 3 = ((p + i : Nat) : Int) := by rw [hv_set_ne (by omega)]; exact f3
            have r4 : hv (hset q1 o 2 3) o 4 = ((p + i : Nat) : Int) := by rw [hv_set_ne (by omega)]; exact f4
            have r5 : hv (hset q1 o 2 3) o 5 = -1 := by rw [hv_set_ne (by omega)]; exact f5
            cases hT : two2 (chr u m (p + i)) (chr u m (p + i + 1)) with
            | true =>
              refine Ends.b0 (fun z => absurd z (by decide)) (fun _ => ?_)
              have e0 : 0 ≤ chr u m (p + i + 1) := by
                unfold two2 at hT
                simp at hT; omega
              rw [tw_is (by omega) cr.2 e0 cr2.2]
              have := fin (hset (hset q1 o 2 3) o 5 (chr u m (p + i) * 256 + chr u m (p + i + 1))) (chr u m (p + i)) (chr u m (p + i) * 256 + chr u m (p + i + 1)) (g2.set ⟨rfl, by decide⟩) (S2.lx l2) (by rw [hv_set_ne (by omega)]; exact hv_set_at ..) (by rw [hv_set_ne (by omega)]; exact r3) (by rw [hv_set_ne (by omega)]; exact r4) (by rw [hv_set_at, ks]; unfold sgc; rw [hT]; rfl)
              rw [hT] at this
              exact this
            | false =>
              refine Ends.b0 (fun _ => ?_) (fun z => absurd rfl z)
              have hc0 : 0 ≤ chr u m (p + i) := by omega
              have T2 := T.sg S.1 gq
              have T3 := T.sg S.1 g2
              refine Ends.g ⟨T2.1, T2.2.1⟩ ?_
              refine Ends.ct l2 (by decide +kernel) (by decide) (c_indexOf l2 (by omega) T3 hc0 cr.2) (fun v h3 l3 _ _ _ ⟨eh, v1, v2⟩ => ?_)
              subst eh
              have ho := S2.1
              refine Ends.eq (b373_269 (n := n) (by (repeat' first | assumption | refine LX.setF _ _ ?_ (by decide +kernel) | refine LX.setS ?_ rfl | refine LX.setA ?_ (by first | assumption | omega))) (by first | assumption | omega) (by first | assumption | omega)) ?_
              have fin2 := fun r x1 x2 => fin r x1 x2
              rw [hT] at fin2
              by_cases hm1 : chr u m (p + i) ∈ oneL
              · have := v1 hm1
                refine Ends.b2 (fun z => by omega) (fun _ => ?_)
                exact fin2 _ _ _ (g2.set ⟨rfl, by decide⟩) (S2.lx l2) (by rw [hv_set_ne (by omega)]; exact hv_set_at ..) (by rw [hv_set_ne (by omega)]; exact r3) (by rw [hv_set_ne (by omega)]; exact r4) (by rw [hv_set_at, ks]; unfold sgc; rw [hT, if_pos hm1]; rfl)
              · have e1 := v2 hm1
                rw [e1]
                refine Ends.b2 (fun _ => ?_) (fun z => absurd z (by decide))
                exact fin2 _ _ _ g2 l2 (hv_set_at ..) r3 r4 (by rw [r5, ks]; unfold sgc; rw [hT, if_neg hm1]; rfl)
      · have S2 : SgP B (hset q1 o 2 0) o a m u := S1.s (by decide)
        have l2 : LX B n (hset q1 o 2 0) := S1.lx l1
        have ho := S2.1
        refine Ends.eq (b373_295 (n := n) (by (repeat' first | assumption | refine LX.setF _ _ ?_ (by decide +kernel) | refine LX.setS ?_ rfl | refine LX.setA ?_ (by first | assumption | omega))) (by first | assumption | omega)) ?_
        refine Ends.sm ⟨_, rfl, g1.set ⟨rfl, by decide⟩, ?_, ?_, ?_, ?_, fun z => ?_⟩
        · rw [hv_set_at]; unfold tkK; rw [eF, if_pos c0]; rfl
        · rw [hv_set_ne (by omega), eF]; exact f3
        · rw [hv_set_ne (by omega)]; unfold tkT; rw [eF, if_pos c0]; exact f4
        · rw [hv_set_ne (by omega)]; unfold tkS; rw [eF, if_pos (Or.inl c0)]; exact f5
        · unfold tkK at z; rw [eF, if_pos c0] at z; cases z
  · exact Agr.rf.set ⟨rfl, by decide⟩
  · exact ⟨rfl, by omega, hv_set_at ..⟩
end NEXT
