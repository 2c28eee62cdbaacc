/-! L3: the model's signs: next, reads, is, isWord -/
section MNEXT
variable {gv : Nat → Int} {B n d m : Nat} {h : AH} {u : Nat → Int}
set_option maxHeartbeats 2000000 in
theorem c_nextM (l : LX B n h) (hd : 12 ≤ d) (S : MgP B h m u) {p : Nat} (h4 : hv h (B + 149) 4 = (p : Int)) (hp : p ≤ m) :
    Vd (cll PP (ev PP (gsF gv) B) d 757 [(2, rf (B + 149))] h) (fun h' => Agr (mgW B) h h' ∧ MgT B h' u m p) := by
  have hm := S.2.2.2
  have hu := S.2.2.1
  refine Vd.into (D := 11) hd (Nat.le_of_ble_eq_true rfl) rfl (fun d hd => ?_)
  refine lpm (fun (i : Nat) => m - (p + i)) (fun (i : Nat) L q => ∃ u1 u2 u3 u4 : AV, L = [(2, rf (B + 149)), u1, u2, u3, u4] ∧ LX B n q ∧ Agr (mgW B) h q ∧ tkF u m p = en isS u m (p + i) ∧ p + i ≤ m ∧ hv q (B + 149) 4 = ((p + i : Nat) : Int)) ?_ (0) ⟨_, _, _, _, rfl, (by (repeat' first | assumption | refine LX.setF _ _ ?_ (by decide +kernel) | refine LX.setS ?_ rfl | refine LX.setA ?_ (by assumption))), ?_, ?_⟩
  · rintro i _ q ⟨uq0, uq1, uq2, uq3, rfl, lq, gq, ⟨i1, i2, i3⟩⟩ ihi
    have Sq := S.ag gq
    have S5 : MgP B (hset q (B + 149) 5 ((p + i : Nat) : Int)) m u := Sq.s (by decide) (by decide)
    have S7 : MgP B (hset (hset q (B + 149) 5 ((p + i : Nat) : Int)) (B + 149) 7 ((p + i : Nat) : Int)) m u := S5.s (by decide) (by decide)
    have cr := chr_r (i := p + i) hu
    have cr2 := chr_r (i := p + i + 1) hu
    refine Ends.eq (b757_0 (n := n) (by (repeat' first | assumption | refine LX.setF _ _ ?_ (by decide +kernel) | refine LX.setS ?_ rfl | refine LX.setA ?_ (by first | assumption | omega))) (by first | assumption | omega)) ?_
    rw [i3, b96_1 (by omega), Sq.by, S5.by, S7.by, v700_is, v685_is]
    refine Ends.g (Sq.q _) ?_
    cases hS : isS (chr u m (p + i)) with
    | true =>
      have e32 : chr u m (p + i) = 32 := of_decide_eq_true hS
      obtain ⟨e1, e2⟩ := en_t (P := isS) rfl hS
      refine Ends.b1 (fun z => absurd e32 z) (fun _ => ?_)
      refine ihi (i + 1) _ _ ?_ ⟨_, _, _, _, rfl, (by (repeat' first | assumption | refine LX.setF _ _ ?_ (by decide +kernel) | refine LX.setS ?_ rfl | refine LX.setA ?_ (by assumption))), ?_, ?_⟩
      · omega
      · exact gq.set ⟨rfl, by decide, by decide⟩
      · exact ⟨by rw [i1, e1]; rfl, by omega, hv_set_at ..⟩
    | false =>
      have e32 : chr u m (p + i) ≠ 32 := of_decide_eq_false hS
      rw [en_f hS] at i1
      have eF : tkF u m p = p + i := i1
      refine Ends.b1 (fun _ => ?_) (fun z => absurd z e32)
      refine Ends.g (S5.q _) ?_
      generalize hq1 : hset (hset q (B + 149) 5 ((p + i : Nat) : Int)) (B + 149) 7 ((p + i : Nat) : Int) = q1 at *
      have l1 : LX B n q1 := by rw [← hq1]; exact LX.setF 149 7 (LX.setF 149 5 lq (by decide +kernel)) (by decide +kernel)
      have g1 : Agr (mgW B) h q1 := by rw [← hq1]; exact (gq.set ⟨rfl, by decide, by decide⟩).set ⟨rfl, by decide, by decide⟩
      have f4 : hv q1 (B + 149) 4 = ((p + i : Nat) : Int) := by rw [← hq1, hv_set_ne (by omega), hv_set_ne (by omega)]; exact i3
      have f5 : hv q1 (B + 149) 5 = ((p + i : Nat) : Int) := by rw [← hq1, hv_set_ne (by omega)]; exact hv_set_at ..
      have f7 : hv q1 (B + 149) 7 = ((p + i : Nat) : Int) := by rw [← hq1]; exact hv_set_at ..
      -- the end: many
      have fin : ∀ (r : AH) (x1 : Int) (u2 u3 u4 : AV), LX B n r → Agr (mgW B) h r → hv r (B + 149) 4 = ((tkT u m p : Nat) : Int) → hv r (B + 149) 5 = ((p + i : Nat) : Int) → hv r (B + 149) 6 = mkd u m p → hv r (B + 149) 7 = ((p + i : Nat) : Int) → (tkK u m p = 2 → hv r (B + 149) 9 = nAb u m (p + i) ∧ hv r (B + 149) 10 = nBe u m (p + i)) → Ends (ev PP (gsF gv) B d 757 355 [(2, rf (B + 149)), (0, x1), u2, u3, u4] [] r) (fun r => ∃ h', r = ((0, (9, 0)), h') ∧ Agr (mgW B) h h' ∧ MgT B h' u m p) := by
        intro r x1 u2 u3 u4 lr gr r4 r5 r6 r7 r9
        obtain ⟨t1, t2, t3⟩ := tk_le (u := u) hp
        refine Ends.eq (b757_355 (n := n) (by (repeat' first | assumption | refine LX.setF _ _ ?_ (by decide +kernel) | refine LX.setS ?_ rfl | refine LX.setA ?_ (by first | assumption | omega))) (by first | assumption | omega)) ?_
        rw [r4, r7, ← eF, subNN (by omega) (by omega)]
        refine Ends.sm ⟨_, rfl, gr.set ⟨rfl, by decide, by decide⟩, ?_, ?_, ?_, ?_, hv_set_at .., fun k2 => ?_⟩
        · rw [hv_set_ne (by omega)]; exact r4
        · rw [hv_set_ne (by omega), r5, eF]
        · rw [hv_set_ne (by omega)]; exact r6
        · rw [hv_set_ne (by omega), r7, eF]
        · rw [hv_set_ne (by omega), hv_set_ne (by omega), eF]; exact r9 k2
      refine Ends.b3 (fun c0 => ?_) (fun c0 => ?_)
      · have n0 : ¬ chr u m (p + i) < 0 := by omega
        cases hL : isL (chr u m (p + i)) with
        | true =>
          refine Ends.b0 (fun z => absurd z (by decide)) (fun _ => ?_)
          have kk : tkK u m p = if en isW u m (p + i) - (p + i) ≤ 12 then 1 else 3 := by unfold tkK; rw [eF, if_neg n0, hL]; rfl
          have kt : tkT u m p = en isW u m (p + i) := by unfold tkT; rw [eF, if_neg n0, hL]; rfl
          have ks : tkS u m p = -1 := by unfold tkS; rw [eF, if_pos (Or.inr (Or.inl hL))]
          generalize hx1 : chr u m (p + i) = x1c
          refine lpm (fun (j : Nat) => m - (p + i + j)) (fun (j : Nat) L r => ∃ u2 u3 u4 : AV, L = [(2, rf (B + 149)), (0, x1c), u2, u3, u4] ∧ LX B n r ∧ Agr (mgW B) h r ∧ en isW u m (p + i) = en isW u m (p + i + j) ∧ p + i + j ≤ m ∧ hv r (B + 149) 4 = ((p + i + j : Nat) : Int) ∧ hv r (B + 149) 5 = ((p + i : Nat) : Int) ∧ hv r (B + 149) 7 = ((p + i : Nat) : Int)) ?_ (0) ⟨_, _, _, rfl, (by (repeat' first | assumption | refine LX.setF _ _ ?_ (by decide +kernel) | refine LX.setS ?_ rfl | refine LX.setA ?_ (by assumption))), ?_, ?_⟩
          · rintro j _ r ⟨ur0, ur1, ur2, rfl, lr, gr, ⟨k1, k2, k3, k4, k5⟩⟩ ihj
            have Sr := S.ag gr
            have more : isW (chr u m (p + i + j)) = true → Ends (ev PP (gsF gv) B d 757 111 [(2, rf (B + 149)), (0, x1c), ur0, ur1, ur2] [] r) (fun r => ∃ h', r = ((0, (9, 0)), h') ∧ Agr (mgW B) h h' ∧ MgT B h' u m p) := by
              intro hw
              obtain ⟨e1, e2⟩ := en_t (P := isW) rfl hw
              refine Ends.eq (b757_111 (n := n) (by (repeat' first | assumption | refine LX.setF _ _ ?_ (by decide +kernel) | refine LX.setS ?_ rfl | refine LX.setA ?_ (by first | assumption | omega))) (by first | assumption | omega)) ?_
              rw [k3, b96_1 (by omega)]
              refine ihj (j + 1) _ _ ?_ ⟨_, _, _, rfl, (by (repeat' first | assumption | refine LX.setF _ _ ?_ (by decide +kernel) | refine LX.setS ?_ rfl | refine LX.setA ?_ (by assumption))), ?_, ?_⟩
              · omega
              · exact gr.set ⟨rfl, by decide, by decide⟩
              · refine ⟨by rw [k1, e1]; rfl, by omega, by rw [hv_set_at]; rfl, ?_, ?_⟩
                · rw [hv_set_ne (by omega)]; exact k4
                · rw [hv_set_ne (by omega)]; exact k5
            refine Ends.eq (b757_70 (n := n) (by (repeat' first | assumption | refine LX.setF _ _ ?_ (by decide +kernel) | refine LX.setS ?_ rfl | refine LX.setA ?_ (by first | assumption | omega))) (by first | assumption | omega)) ?_
            rw [k3, Sr.by, v700_is, v685_is]
            refine Ends.g (Sr.q _) ?_
            cases hL2 : isL (chr u m (p + i + j)) with
            | true => exact Ends.b1 (fun _ => more (by unfold isW; rw [hL2]; rfl)) (fun z => absurd z (by decide))
            | false =>
              refine Ends.b1 (fun z => absurd rfl z) (fun _ => ?_)
              cases hD2 : isD (chr u m (p + i + j)) with
              | true => exact Ends.b1 (fun _ => more (by unfold isW; rw [hD2, Bool.or_true]; rfl)) (fun z => absurd z (by decide))
              | false =>
                refine Ends.b1 (fun z => absurd rfl z) (fun _ => Ends.b1 (fun z => ?_) (fun z => more (by unfold isW; rw [decide_eq_true z, Bool.or_true])))
                have hW : isW (chr u m (p + i + j)) = false := by unfold isW; rw [hL2, hD2, decide_eq_false z]; rfl
                rw [en_f hW] at k1
                rw [k5, subNN (by omega) (by omega), show p + i + j - (p + i) = j by omega, tst5]
                have ek : cond (!decide ((12 : Int) < (j : Int))) (1 : Int) 4 = mkd u m p := by
                  unfold mkd
                  rw [ks, kk, k1, show p + i + j - (p + i) = j by omega]
                  by_cases e : j ≤ 12
                  · rw [if_pos e, decide_eq_false (by omega)]; rfl
                  · rw [if_neg e, decide_eq_true (by omega)]; rfl
                rw [ek]
                refine fin _ _ _ _ _ (LX.setF 149 6 lr (by decide +kernel)) (gr.set ⟨rfl, by decide, by decide⟩) ?_ ?_ (hv_set_at ..) ?_ (fun k2' => ?_)
                · rw [hv_set_ne (by omega), kt, k1]; exact k3
                · rw [hv_set_ne (by omega)]; exact k4
                · rw [hv_set_ne (by omega)]; exact k5
                · rw [kk] at k2'; split at k2' <;> omega
          · exact g1
          · exact ⟨rfl, by omega, f4, f5, f7⟩
        | false =>
          refine Ends.b0 (fun _ => ?_) (fun z => absurd rfl z)
          cases hD : isD (chr u m (p + i)) with
          | true =>
            refine Ends.b0 (fun z => absurd z (by decide)) (fun _ => ?_)
            refine Ends.cv l1 (by decide +kernel) (c_numberM l1 (by omega) (S.ag g1) f4 f5 f7 (by omega)) (fun h2 l2 _ _ _ ⟨g2, N1, N2, N3, N4, N5⟩ => ?_)
            refine Ends.eq (b757_161 (n := n) (by (repeat' first | assumption | refine LX.setF _ _ ?_ (by decide +kernel) | refine LX.setS ?_ rfl | refine LX.setA ?_ (by first | assumption | omega))) (by first | assumption | omega)) ?_
            have kk : tkK u m p = if nOK u m (p + i) then 2 else 3 := by unfold tkK; rw [eF, if_neg n0, hL, hD]; rfl
            have ks : tkS u m p = -1 := by unfold tkS; rw [eF, if_pos (Or.inr (Or.inr hD))]
            refine fin _ _ _ _ _ l2 (g1.tr g2 (fun _ _ z => z)) ?_ N2 ?_ N3 (fun k2' => ?_)
            · rw [N4]; unfold tkT; rw [eF, if_neg n0, hL, hD]; rfl
            · rw [N1]; unfold mkd; rw [ks, kk]; split <;> rfl
            · refine N5 ?_
              rw [kk] at k2'
              split at k2'
              · next z => exact z
              · omega
          | false =>
            refine Ends.b0 (fun _ => ?_) (fun z => absurd rfl z)
            have kk : tkK u m p = 3 := by unfold tkK; rw [eF, if_neg n0, hL, hD]; rfl
            have kt : tkT u m p = p + i + if two2 (chr u m (p + i)) (chr u m (p + i + 1)) then 2 else 1 := by unfold tkT; rw [eF, if_neg n0, hL, hD]; rfl
            have ks : tkS u m p = sgc (chr u m (p + i)) (chr u m (p + i + 1)) := by
              unfold tkS
              rw [eF, if_neg (fun z => by rcases z with z | z | z; exact n0 z; rw [hL] at z; cases z; rw [hD] at z; cases z)]
            rw [two_is (by omega) cr.2 cr2.1 cr2.2, one_is]
            refine Ends.g (S7.q _) ?_
            have ek : cond (tst 1 (if two2 (chr u m (p + i)) (chr u m (p + i + 1)) = true then (1 : Int) else 0) 0) (3 : Int) (cond (tst 0 (if chr u m (p + i) ∈ oneL then (1 : Int) else 0) 0) 4 3) = mkd u m p := by
              unfold mkd
              rw [kk, ks]
              unfold sgc
              by_cases e2 : two2 (chr u m (p + i)) (chr u m (p + i + 1)) = true
              · have k := (two2_iff (by omega) cr.2 cr2.1 cr2.2).mp e2
                have h1 := cr.1
                have h2 := cr2.1
                have hne : ¬ ((3 : Nat) = 3 ∧ chr u m (p + i) * 256 + chr u m (p + i + 1) = -1) := fun z => by
                  have z := z.2
                  omega
                rw [if_pos e2, if_pos e2, if_neg hne]; rfl
              · rw [if_neg e2, if_neg e2]
                by_cases e1 : chr u m (p + i) ∈ oneL
                · have hne : ¬ ((3 : Nat) = 3 ∧ chr u m (p + i) = -1) := fun z => by
                    have z := z.2
                    omega
                  rw [if_pos e1, if_pos e1, if_neg hne]; rfl
                · rw [if_neg e1, if_neg e1]; rfl
            have et : bop32 96 ((p + i : Nat) : Int) (cond (tst 0 (if two2 (chr u m (p + i)) (chr u m (p + i + 1)) = true then (1 : Int) else 0) 0) 1 2) = ((tkT u m p : Nat) : Int) := by
              rw [kt]
              by_cases e2 : two2 (chr u m (p + i)) (chr u m (p + i + 1)) = true
              · rw [if_pos e2, if_pos e2]; exact addNN (y := 2) (by omega)
              · rw [if_neg e2, if_neg e2]; exact addNN (y := 1) (by omega)
            rw [ek, et]
            refine fin _ _ _ _ _ (LX.setF 149 4 (LX.setF 149 6 l1 (by decide +kernel)) (by decide +kernel)) ((g1.set ⟨rfl, by decide, by decide⟩).set ⟨rfl, by decide, by decide⟩) (hv_set_at ..) ?_ ?_ ?_ (fun k2' => by omega)
            · rw [hv_set_ne (by omega), hv_set_ne (by omega)]; exact f5
            · rw [hv_set_ne (by omega)]; exact hv_set_at ..
            · rw [hv_set_ne (by omega), hv_set_ne (by omega)]; exact f7
      · have kk : tkK u m p = 0 := by unfold tkK; rw [eF, if_pos c0]
        refine fin _ _ _ _ _ (LX.setF 149 6 l1 (by decide +kernel)) (g1.set ⟨rfl, by decide, by decide⟩) ?_ ?_ ?_ ?_ (fun k2' => by omega)
        · rw [hv_set_ne (by omega)]; unfold tkT; rw [eF, if_pos c0]; exact f4
        · rw [hv_set_ne (by omega)]; exact f5
        · rw [hv_set_at]; unfold mkd; rw [kk]; rfl
        · rw [hv_set_ne (by omega)]; exact f7
  · exact Agr.rf
  · exact ⟨rfl, by omega, h4⟩
/-- the text of the sign is s -/
def rdP (u : Nat → Int) (m p : Nat) (s : List Int) : Prop := tkT u m p - tkF u m p = s.length ∧ ∀ i c, s[i]? = some c → u (tkF u m p + i) = c
theorem c_readsM (l : LX B n h) (hd : 16 ≤ d) (S : MgP B h m u) {p : Nat} (R : MgT B h u m p) (hp : p ≤ m) {x : Int} {s : List Int} (T : StrA gv h x s) :
    Vt 0 (cll PP (ev PP (gsF gv) B) d 797 [(2, rf (B + 149)), (2, x)] h) (fun v h' => h' = h ∧ ((rdP u m p s ∧ v = 1) ∨ (¬ rdP u m p s ∧ v = 0))) := by
  obtain ⟨t1, t2, t3⟩ := tk_le (u := u) hp
  have hm := S.2.2.2
  refine Vt.into (D := 15) hd (Nat.le_of_ble_eq_true rfl) rfl (fun d hd => ?_)
  refine Ends.eq (b797_0 (n := n) (by (repeat' first | assumption | refine LX.setF _ _ ?_ (by decide +kernel) | refine LX.setS ?_ rfl | refine LX.setA ?_ (by first | assumption | omega))) (by first | assumption | omega)) ?_
  rw [R.2.2.2.2.1, T.v901]
  refine Ends.g ⟨⟨T.1, T.2.1⟩, T.q901⟩ (Ends.b0 (fun e => ?_) (fun e => Ends.sm ⟨_, _, rfl, rfl, Or.inr ⟨fun w => e (by rw [w.1]), rfl⟩⟩))
  have el : tkT u m p - tkF u m p = s.length := by omega
  refine lp s.length (fun i L q => (L = [(2, rf (B + 149)), (2, x), (0, (i : Int))]) ∧ q = h ∧ i ≤ s.length ∧ ∀ j c, j < i → s[j]? = some c → u (tkF u m p + j) = c) ?_ ?_ 0 ⟨rfl, rfl, Nat.zero_le _, fun j c hj => absurd hj (by omega)⟩
  · rintro i _ q hi ⟨rfl, rfl, -, hs⟩ ih
    have es : s[i]? = some s[i] := List.getElem?_eq_getElem hi
    have hl := T.2.2.2.2.2.2.2
    refine Ends.eq (b797_15 (n := n) (by (repeat' first | assumption | refine LX.setF _ _ ?_ (by decide +kernel) | refine LX.setS ?_ rfl | refine LX.setA ?_ (by first | assumption | omega))) (by first | assumption | omega)) ?_
    rw [R.2.2.2.2.1, R.2.2.2.1, addNN (by omega), tn]
    refine Ends.b3 (fun z => by omega) (fun _ => Ends.g ⟨by omega, by omega⟩ (Ends.g ⟨T.1, T.2.1⟩ ?_))
    refine Ends.ct l (by decide +kernel) (by decide) (c_charAt l (by omega) T es) (fun v q1 l1 _ _ _ ⟨ev, eh⟩ => ?_)
    subst ev eh
    refine Ends.eq (b797_39 (n := n) (by (repeat' first | assumption | refine LX.setF _ _ ?_ (by decide +kernel) | refine LX.setS ?_ rfl | refine LX.setA ?_ (by first | assumption | omega))) (by first | assumption | omega)) ?_
    rw [S.2.1 _ (by omega)]
    refine Ends.b0 (fun e => ?_) (fun e => Ends.sm ⟨_, _, rfl, rfl, Or.inr ⟨fun w => e (w.2 i _ es), rfl⟩⟩)
    rw [w_succ (by omega)]
    refine ih _ _ ⟨rfl, rfl, hi, fun j c hj hc => ?_⟩
    by_cases ej : j = i
    · subst ej
      rw [es] at hc
      rw [← Option.some.inj hc]; exact e
    · exact hs j c (by omega) hc
  · rintro i _ q hi ⟨rfl, rfl, hi2, hs⟩
    refine Ends.eq (b797_15 (n := n) (by (repeat' first | assumption | refine LX.setF _ _ ?_ (by decide +kernel) | refine LX.setS ?_ rfl | refine LX.setA ?_ (by first | assumption | omega))) (by first | assumption | omega)) ?_
    rw [R.2.2.2.2.1]
    refine Ends.b3 (fun _ => Ends.sm ⟨_, _, rfl, rfl, Or.inl ⟨⟨el, fun j c hc => hs j c (by have := (List.getElem?_eq_some_iff.mp hc).1; omega) hc⟩, rfl⟩⟩) (fun z => by omega)
theorem c_isM (l : LX B n h) (hd : 17 ≤ d) (S : MgP B h m u) {p : Nat} (R : MgT B h u m p) (hp : p ≤ m) {x : Int} {s : List Int} (T : StrA gv h x s) :
    Vt 0 (cll PP (ev PP (gsF gv) B) d 678 [(2, rf (B + 149)), (2, x)] h) (fun v h' => h' = h ∧ (((mkd u m p = 3 ∧ rdP u m p s) ∧ v = 1) ∨ (¬ (mkd u m p = 3 ∧ rdP u m p s) ∧ v = 0))) := by
  refine Vt.into (D := 16) hd (Nat.le_of_ble_eq_true rfl) rfl (fun d hd => ?_)
  refine Ends.eq (b678_0 (n := n) (by (repeat' first | assumption | refine LX.setF _ _ ?_ (by decide +kernel) | refine LX.setS ?_ rfl | refine LX.setA ?_ (by first | assumption | omega))) (by first | assumption | omega)) ?_
  rw [R.2.2.1]
  refine Ends.b1 (fun e => ?_) (fun e => ?_)
  · refine Ends.eq (b678_20 (n := n) (by (repeat' first | assumption | refine LX.setF _ _ ?_ (by decide +kernel) | refine LX.setS ?_ rfl | refine LX.setA ?_ (by first | assumption | omega))) (by first | assumption | omega)) ?_
    refine Ends.eq (b678_21 (n := n) (by (repeat' first | assumption | refine LX.setF _ _ ?_ (by decide +kernel) | refine LX.setS ?_ rfl | refine LX.setA ?_ (by first | assumption | omega))) (by first | assumption | omega)) ?_
    exact Ends.g (Or.inl rfl) (Ends.sm ⟨_, _, rfl, rfl, Or.inr ⟨fun w => e w.1, rfl⟩⟩)
  · refine Ends.ct l (by decide +kernel) (by decide) (c_readsM l (by omega) S R hp T) (fun v q1 l1 _ _ _ ⟨eh, w⟩ => ?_)
    subst eh
    refine Ends.eq (b678_13 (n := n) (by (repeat' first | assumption | refine LX.setF _ _ ?_ (by decide +kernel) | refine LX.setS ?_ rfl | refine LX.setA ?_ (by first | assumption | omega))) (by first | assumption | omega)) ?_
    rcases w with ⟨w, rfl⟩ | ⟨w, rfl⟩
    · exact Ends.sm ⟨_, _, rfl, rfl, Or.inl ⟨⟨e, w⟩, rfl⟩⟩
    · exact Ends.sm ⟨_, _, rfl, rfl, Or.inr ⟨fun z => w z.2, rfl⟩⟩
theorem mkd_1 {p : Nat} : mkd u m p = 1 ↔ tkK u m p = 1 := by
  unfold mkd
  split <;> omega
theorem mkd_0 {p : Nat} : mkd u m p = 0 ↔ tkK u m p = 0 := by
  unfold mkd
  split <;> omega
theorem mkd_2 {p : Nat} : mkd u m p = 2 ↔ tkK u m p = 2 := by
  unfold mkd
  split <;> omega
theorem mkd_3 {p : Nat} : mkd u m p = 3 ↔ tkK u m p = 3 ∧ tkS u m p ≠ -1 := by
  unfold mkd
  split <;> omega
theorem c_isWordM (l : LX B n h) (hd : 17 ≤ d) (S : MgP B h m u) {p : Nat} (R : MgT B h u m p) (hp : p ≤ m) {x : Int} {s : List Int} (T : StrA gv h x s) :
    Vt 0 (cll PP (ev PP (gsF gv) B) d 723 [(2, rf (B + 149)), (2, x)] h) (fun v h' => h' = h ∧ ((isWd u m p s ∧ v = 1) ∨ (¬ isWd u m p s ∧ v = 0))) := by
  refine Vt.into (D := 16) hd (Nat.le_of_ble_eq_true rfl) rfl (fun d hd => ?_)
  refine Ends.eq (b723_0 (n := n) (by (repeat' first | assumption | refine LX.setF _ _ ?_ (by decide +kernel) | refine LX.setS ?_ rfl | refine LX.setA ?_ (by first | assumption | omega))) (by first | assumption | omega)) ?_
  rw [R.2.2.1]
  refine Ends.b1 (fun e => ?_) (fun e => ?_)
  · refine Ends.eq (b723_20 (n := n) (by (repeat' first | assumption | refine LX.setF _ _ ?_ (by decide +kernel) | refine LX.setS ?_ rfl | refine LX.setA ?_ (by first | assumption | omega))) (by first | assumption | omega)) ?_
    refine Ends.eq (b723_21 (n := n) (by (repeat' first | assumption | refine LX.setF _ _ ?_ (by decide +kernel) | refine LX.setS ?_ rfl | refine LX.setA ?_ (by first | assumption | omega))) (by first | assumption | omega)) ?_
    exact Ends.g (Or.inl rfl) (Ends.sm ⟨_, _, rfl, rfl, Or.inr ⟨fun w => e (mkd_1.mpr w.1), rfl⟩⟩)
  · refine Ends.ct l (by decide +kernel) (by decide) (c_readsM l (by omega) S R hp T) (fun v q1 l1 _ _ _ ⟨eh, w⟩ => ?_)
    subst eh
    refine Ends.eq (b723_13 (n := n) (by (repeat' first | assumption | refine LX.setF _ _ ?_ (by decide +kernel) | refine LX.setS ?_ rfl | refine LX.setA ?_ (by first | assumption | omega))) (by first | assumption | omega)) ?_
    rcases w with ⟨w, rfl⟩ | ⟨w, rfl⟩
    · exact Ends.sm ⟨_, _, rfl, rfl, Or.inl ⟨⟨mkd_1.mp e, w⟩, rfl⟩⟩
    · exact Ends.sm ⟨_, _, rfl, rfl, Or.inr ⟨fun z => w z.2, rfl⟩⟩
/-- a sign's shape -/
theorem sg_shape {p : Nat} (hu : ∀ i, i < m → 0 ≤ u i ∧ u i < 256) (k3 : tkK u m p = 3) (ks : tkS u m p ≠ -1) : tkF u m p < m ∧ ((tkF u m p + 1 < m ∧ two2 (u (tkF u m p)) (u (tkF u m p + 1)) = true ∧ tkS u m p = u (tkF u m p) * 256 + u (tkF u m p + 1) ∧ tkT u m p = tkF u m p + 2) ∨ (u (tkF u m p) ∈ oneL ∧ tkS u m p = u (tkF u m p) ∧ tkT u m p = tkF u m p + 1)) := by
  have h0 : ¬ (chr u m (tkF u m p) < 0 ∨ isL (chr u m (tkF u m p)) = true ∨ isD (chr u m (tkF u m p)) = true) := fun z => ks (by unfold tkS; rw [if_pos z])
  have n0 : ¬ chr u m (tkF u m p) < 0 := fun z => h0 (Or.inl z)
  have nL : ¬ isL (chr u m (tkF u m p)) = true := fun z => h0 (Or.inr (Or.inl z))
  have nD : ¬ isD (chr u m (tkF u m p)) = true := fun z => h0 (Or.inr (Or.inr z))
  have es : tkS u m p = sgc (chr u m (tkF u m p)) (chr u m (tkF u m p + 1)) := by unfold tkS; rw [if_neg h0]
  have et : tkT u m p = tkF u m p + (if two2 (chr u m (tkF u m p)) (chr u m (tkF u m p + 1)) then 2 else 1) := by unfold tkT; rw [if_neg n0, if_neg nL, if_neg nD]
  have lt : tkF u m p < m := by
    by_cases e : tkF u m p < m
    · exact e
    · exfalso; apply n0; unfold chr; rw [if_neg e]; decide
  have ec : chr u m (tkF u m p) = u (tkF u m p) := if_pos lt
  rw [ec] at es et
  refine ⟨lt, ?_⟩
  by_cases e2 : two2 (u (tkF u m p)) (chr u m (tkF u m p + 1)) = true
  · left
    have lt2 : tkF u m p + 1 < m := by
      by_cases e : tkF u m p + 1 < m
      · exact e
      · exfalso
        unfold chr two2 at e2
        rw [if_neg e] at e2
        exact absurd e2 (by simp)
    have ec2 : chr u m (tkF u m p + 1) = u (tkF u m p + 1) := if_pos lt2
    rw [ec2] at e2 es et
    refine ⟨lt2, e2, ?_, ?_⟩
    · rw [es]; unfold sgc; rw [if_pos e2]
    · rw [et, if_pos e2]
  · right
    have e1 : u (tkF u m p) ∈ oneL := by
      by_cases e : u (tkF u m p) ∈ oneL
      · exact e
      · exfalso; apply ks; rw [es]; unfold sgc; rw [if_neg e2, if_neg e]
    refine ⟨e1, ?_, ?_⟩
    · rw [es]; unfold sgc; rw [if_neg e2, if_pos e1]
    · rw [et, if_neg e2]
theorem is1 {p : Nat} {c : Int} (hu : ∀ i, i < m → 0 ≤ u i ∧ u i < 256) (h1 : 0 ≤ c) (h2 : c < 256) : (mkd u m p = 3 ∧ rdP u m p [c]) ↔ isSg u m p c = true := by
  rw [mkd_3, isSg_iff]
  constructor
  · rintro ⟨⟨k3, ks⟩, r1, r2⟩
    refine ⟨k3, ?_⟩
    obtain ⟨lt, ⟨l2, e2, e3, e4⟩ | ⟨e1, e2, e3⟩⟩ := sg_shape hu k3 ks
    · rw [e4] at r1
      have r1 : tkF u m p + 2 - tkF u m p = 1 := r1
      omega
    · rw [e2]; exact r2 0 c rfl
  · rintro ⟨k3, ks⟩
    have n1 : tkS u m p ≠ -1 := by omega
    refine ⟨⟨k3, n1⟩, ?_⟩
    obtain ⟨lt, ⟨l2, e2, e3, e4⟩ | ⟨e1, e2, e3⟩⟩ := sg_shape hu k3 n1
    · exfalso
      have a := hu _ lt
      have b := hu _ l2
      have k := (two2_iff a.1 a.2 (by omega) b.2).mp e2
      omega
    · refine ⟨by rw [e3]; show tkF u m p + 1 - tkF u m p = 1; omega, fun i x hx => ?_⟩
      have hi : i = 0 := by
        have := (List.getElem?_eq_some_iff.mp hx).1
        have : i < 1 := this
        omega
      subst hi
      have : c = x := Option.some.inj hx
      rw [Nat.add_zero, ← this, ← ks, e2]
theorem is2 {p : Nat} {c e : Int} (hu : ∀ i, i < m → 0 ≤ u i ∧ u i < 256) (h1 : 0 < c) (h2 : c < 256) (h3 : 0 ≤ e) (h4 : e < 256) : (mkd u m p = 3 ∧ rdP u m p [c, e]) ↔ isSg u m p (c * 256 + e) = true := by
  rw [mkd_3, isSg_iff]
  constructor
  · rintro ⟨⟨k3, ks⟩, r1, r2⟩
    refine ⟨k3, ?_⟩
    obtain ⟨lt, ⟨l2, e2, e3, e4⟩ | ⟨e1, e2, e3⟩⟩ := sg_shape hu k3 ks
    · have a := r2 0 c rfl
      have b := r2 1 e rfl
      rw [Nat.add_zero] at a
      rw [e3, a, b]
    · rw [e3] at r1
      have r1 : tkF u m p + 1 - tkF u m p = 2 := r1
      omega
  · rintro ⟨k3, ks⟩
    have n1 : tkS u m p ≠ -1 := by omega
    refine ⟨⟨k3, n1⟩, ?_⟩
    obtain ⟨lt, ⟨l2, e2, e3, e4⟩ | ⟨e1, e2, e3⟩⟩ := sg_shape hu k3 n1
    · have a := hu _ lt
      have b := hu _ l2
      refine ⟨by rw [e4]; show tkF u m p + 2 - tkF u m p = 2; omega, fun i x hx => ?_⟩
      have hi : i = 0 ∨ i = 1 := by
        have := (List.getElem?_eq_some_iff.mp hx).1
        have : i < 2 := this
        omega
      rcases hi with rfl | rfl
      · have : c = x := Option.some.inj hx
        rw [Nat.add_zero]; omega
      · have : e = x := Option.some.inj hx
        omega
    · exfalso
      have a := hu _ lt
      omega
end MNEXT
