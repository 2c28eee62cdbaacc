/-! L3: reading: every name was seen -/
section ALL
variable {u : Nat → Int} {m : Nat} {fd : Nat → Int} {bk : Nat → Bool}
theorem tkT_ge {u : Nat → Int} {m p : Nat} : p ≤ tkT u m p := by
  have h0 : p ≤ tkF u m p := en_ge
  unfold tkT
  split
  · exact h0
  split
  · exact Nat.le_trans h0 en_ge
  split
  · unfold nE2
    have h1 : tkF u m p ≤ nE1 u m (tkF u m p) := en_ge
    split
    · have : nE1 u m (tkF u m p) + 1 ≤ en isD u m (nE1 u m (tkF u m p) + 1) := en_ge
      omega
    · omega
  · split <;> omega
theorem tkI_le {u : Nat → Int} {m i : Nat} : ∀ j, tkI u m i ≤ tkI u m (i + j)
  | 0 => Nat.le_refl _
  | j + 1 => Nat.le_trans (tkI_le j) tkT_ge
theorem tkR_eq {p q : Nat} (hp : TkR u m p) (hq : TkR u m q) (h1 : p ≤ q) (h2 : q < tkT u m p) : q = p := by
  obtain ⟨i, ei⟩ := hp
  obtain ⟨j, ej⟩ := hq
  by_cases e : j ≤ i
  · have := tkI_le (u := u) (m := m) (i := j) (i - j)
    rw [show j + (i - j) = i by omega] at this
    omega
  · have := tkI_le (u := u) (m := m) (i := i + 1) (j - (i + 1))
    rw [show i + 1 + (j - (i + 1)) = j by omega] at this
    have e2 : tkI u m (i + 1) = tkT u m p := by rw [← ei]; rfl
    omega
theorem or_k {p : Nat} (h : (isSg u m p 45 || isSg u m p 33) = true) : tkK u m p = 3 := by
  rw [Bool.or_eq_true] at h
  exact h.elim (fun z => (isSg_iff.mp z).1) (fun z => (isSg_iff.mp z).1)
theorem lev_k3 {p : Nat} {lst : Int} (h0 : 0 ≤ lst) (h : lst ≤ levF u m p) : tkK u m p = 3 := by
  unfold levF at h
  split at h
  · assumption
  · omega
theorem numD_w {p q : Nat} (hT : TkR u m p) (hTq : TkR u m q) (h1 : tkT u m p ≤ q) (h2 : q < (numD u m p).2) : q = tkT u m p ∧ (isWd u m q [109, 109] ∨ isWd u m q [99, 109] ∨ isWd u m q [105, 110]) := by
  unfold numD at h2
  by_cases w1 : isWd u m (tkT u m p) [109, 109]
  · rw [itP_t w1] at h2
    have e := tkR_eq hT.s hTq h1 h2
    exact ⟨e, Or.inl (by rw [e]; exact w1)⟩
  rw [itP_f w1] at h2
  by_cases w2 : isWd u m (tkT u m p) [99, 109]
  · rw [itP_t w2] at h2
    have e := tkR_eq hT.s hTq h1 h2
    exact ⟨e, Or.inr (Or.inl (by rw [e]; exact w2))⟩
  rw [itP_f w2] at h2
  by_cases w3 : isWd u m (tkT u m p) [105, 110]
  · rw [itP_t w3] at h2
    have e := tkR_eq hT.s hTq h1 h2
    exact ⟨e, Or.inr (Or.inr (by rw [e]; exact w3))⟩
  rw [itP_f w3] at h2
  have h2 : q < tkT u m p := h2
  omega
set_option maxHeartbeats 2000000 in
theorem pS_all (hk : ∀ q, tkK u m q = 1 → (0 ≤ fnW u m q ∨ isWd u m q [109, 109] ∨ isWd u m q [99, 109] ∨ isWd u m q [105, 110]) → fd q < 0) : ∀ (g md : Nat) (lst : Int) (dp p : Nat) (acc : Dn × (Nat → Bool)) (D0 : Dn) (N0 : Nat → Bool) (P1 : Nat), pS u m fd bk g md lst dp p acc = some (.inr (D0, N0, P1)) → 0 ≤ lst → p ≤ m → (md = 2 → 0 < p) → TkR u m p → (md = 2 → ∀ w, acc.2 w = true → N0 w = true) ∧ ∀ q, TkR u m q → p ≤ q → q < P1 → tkK u m q = 1 → 0 ≤ fd q → N0 (fd q).toNat = true
  | 0, _, _, _, _, _, _, _, _, h, _, _, _, _ => by unfold pS at h; cases h
  | g + 1, md, lst, dp, p, acc, D0, N0, P1, h, hl, hpm, h2p, hT => by
    have ih := pS_all hk g
    unfold pS at h
    by_cases m0 : md = 0
    · rw [if_pos m0] at h
      cases e1 : pS u m fd bk g 1 0 dp p acc with
      | none => rw [e1] at h; cases h
      | some r1 =>
      rw [e1] at h
      rcases r1 with e | ⟨D, N, p1⟩
      · dsimp only at h
        cases h
      dsimp only at h
      by_cases c47 : isSg u m p1 63 = true
      · rw [if_pos c47] at h
        by_cases c48 : 24 ≤ dp
        · rw [if_pos c48] at h
          cases h
        · rw [if_neg c48] at h
          cases e2 : pS u m fd bk g 0 0 (dp + 1) (tkT u m p1) acc with
          | none => rw [e2] at h; cases h
          | some r2 =>
          rw [e2] at h
          rcases r2 with e | ⟨D2, N2, p2⟩
          · dsimp only at h
            cases h
          dsimp only at h
          by_cases c49 : isSg u m p2 58 = true
          · rw [if_pos c49] at h
            cases e3 : pS u m fd bk g 0 0 (dp + 1) (tkT u m p2) acc with
            | none => rw [e3] at h; cases h
            | some r3 =>
            rw [e3] at h
            rcases r3 with e | ⟨D3, N3, p3⟩
            · dsimp only at h
              cases h
            dsimp only at h
            have f1 := pS_lt1 e1 (by omega) hpm
            have sc47 := sg_lt (u := u) f1.2 c47
            have f2 := pS_lt0 e2 (by omega) sc47.2
            have sc49 := sg_lt (u := u) f2.2 c49
            have f3 := pS_lt0 e3 (by omega) sc49.2
            have t1 := (pS_rc g).2.1 _ _ _ acc hT D N p1 e1
            have t2 := (pS_rc g).1 _ _ acc t1.s D2 N2 p2 e2
            have t3 := (pS_rc g).1 _ _ acc t2.s D3 N3 p3 e3
            have h := Sum.inr.inj (Option.some.inj h)
            obtain ⟨hDD, hNP⟩ := Prod.mk.inj h
            obtain ⟨hNN, hPP⟩ := Prod.mk.inj hNP
            subst hDD hNN hPP
            refine ⟨fun z => absurd z (by omega), fun q hTq hq hq2 k1 hf => ?_⟩
            by_cases z1 : q < p1
            · exact orl ((ih _ _ _ _ _ _ _ _ e1 (by omega) hpm (fun z => by omega) hT).2 q hTq (by omega) z1 k1 hf)
            by_cases yc47 : q < tkT u m p1
            · have eq := tkR_eq t1 hTq (by omega) yc47
              rw [eq] at k1 hf ⊢
              have kk := (isSg_iff.mp c47).1
              omega
            by_cases z2 : q < p2
            · exact orr (orl ((ih _ _ _ _ _ _ _ _ e2 (by omega) sc47.2 (fun z => by omega) t1.s).2 q hTq (by omega) z2 k1 hf))
            by_cases yc49 : q < tkT u m p2
            · have eq := tkR_eq t2 hTq (by omega) yc49
              rw [eq] at k1 hf ⊢
              have kk := (isSg_iff.mp c49).1
              omega
            by_cases z3 : q < p3
            · exact orr (orr ((ih _ _ _ _ _ _ _ _ e3 (by omega) sc49.2 (fun z => by omega) t2.s).2 q hTq (by omega) z3 k1 hf))
            exfalso; omega
          · rw [if_neg c49] at h
            cases h
      · rw [if_neg c47] at h
        have f1 := pS_lt1 e1 (by omega) hpm
        have t1 := (pS_rc g).2.1 _ _ _ acc hT D N p1 e1
        have h := Sum.inr.inj (Option.some.inj h)
        obtain ⟨hDD, hNP⟩ := Prod.mk.inj h
        obtain ⟨hNN, hPP⟩ := Prod.mk.inj hNP
        subst hDD hNN hPP
        refine ⟨fun z => absurd z (by omega), fun q hTq hq hq2 k1 hf => ?_⟩
        by_cases z1 : q < p1
        · exact (ih _ _ _ _ _ _ _ _ e1 (by omega) hpm (fun z => by omega) hT).2 q hTq (by omega) z1 k1 hf
        exfalso; omega
    rw [if_neg m0] at h
    by_cases m1 : md = 1
    · rw [if_pos m1] at h
      cases e1 : pS u m fd bk g 3 0 dp p acc with
      | none => rw [e1] at h; cases h
      | some r1 =>
      rw [e1] at h
      rcases r1 with e | ⟨D, N, p1⟩
      · dsimp only at h
        cases h
      dsimp only at h
      have f1 := pS_lt3 e1 (by omega) hpm
      have t1 := (pS_rc g).2.2.2 _ _ acc hT D N p1 e1
      have fT := pS_lt2 h hl f1.2 (by omega)
      obtain ⟨iT, iT2⟩ := ih _ _ _ _ _ _ _ _ h hl f1.2 (fun _ => by omega) t1
      refine ⟨fun z => absurd z (by omega), fun q hTq hq hq2 k1 hf => ?_⟩
      by_cases z1 : q < p1
      · exact iT rfl _ ((ih _ _ _ _ _ _ _ _ e1 (by omega) hpm (fun z => by omega) hT).2 q hTq (by omega) z1 k1 hf)
      exact iT2 q hTq (by omega) hq2 k1 hf
    rw [if_neg m1] at h
    by_cases m2 : md = 2
    · rw [if_pos m2] at h
      by_cases c50 : lst ≤ levF u m p
      · rw [if_pos c50] at h
        cases e1 : pS u m fd bk g 1 (levF u m p + 1) dp (tkT u m p) acc with
        | none => rw [e1] at h; cases h
        | some r1 =>
        rw [e1] at h
        rcases r1 with e | ⟨D, N, p1⟩
        · dsimp only at h
          cases h
        dsimp only at h
        have sc50 := lev_lt (u := u) hpm hl c50
        have f1 := pS_lt1 e1 (by omega) sc50.2
        have t1 := (pS_rc g).2.1 _ _ _ acc hT.s D N p1 e1
        have fT := pS_lt2 h hl f1.2 (by omega)
        obtain ⟨iT, iT2⟩ := ih _ _ _ _ _ _ _ _ h hl f1.2 (fun _ => by omega) t1
        refine ⟨fun _ w hw => iT rfl w (orl hw), fun q hTq hq hq2 k1 hf => ?_⟩
        by_cases yc50 : q < tkT u m p
        · have eq := tkR_eq hT hTq (by omega) yc50
          rw [eq] at k1 hf ⊢
          have kk := lev_k3 hl c50
          omega
        by_cases z1 : q < p1
        · exact iT rfl _ (orr ((ih _ _ _ _ _ _ _ _ e1 (by omega) sc50.2 (fun z => by omega) hT.s).2 q hTq (by omega) z1 k1 hf))
        exact iT2 q hTq (by omega) hq2 k1 hf
      · rw [if_neg c50] at h
        have h := Sum.inr.inj (Option.some.inj h)
        obtain ⟨hDD, hNP⟩ := Prod.mk.inj h
        obtain ⟨hNN, hPP⟩ := Prod.mk.inj hNP
        subst hDD hNN hPP
        exact ⟨fun _ w hw => hw, fun q hTq hq hq2 k1 hf => by omega⟩
    rw [if_neg m2] at h
    by_cases c51 : (isSg u m p 45 || isSg u m p 33) = true
    · rw [if_pos c51] at h
      by_cases c52 : 24 ≤ dp
      · rw [if_pos c52] at h
        cases h
      · rw [if_neg c52] at h
        cases e1 : pS u m fd bk g 3 0 (dp + 1) (tkT u m p) acc with
        | none => rw [e1] at h; cases h
        | some r1 =>
        rw [e1] at h
        rcases r1 with e | ⟨D, N, p1⟩
        · dsimp only at h
          cases h
        dsimp only at h
        have sc51 := or_lt (u := u) hpm c51
        have f1 := pS_lt3 e1 (by omega) sc51.2
        have t1 := (pS_rc g).2.2.2 _ _ acc hT.s D N p1 e1
        have h := Sum.inr.inj (Option.some.inj h)
        obtain ⟨hDD, hNP⟩ := Prod.mk.inj h
        obtain ⟨hNN, hPP⟩ := Prod.mk.inj hNP
        subst hDD hNN hPP
        refine ⟨fun z => absurd z (by omega), fun q hTq hq hq2 k1 hf => ?_⟩
        by_cases yc51 : q < tkT u m p
        · have eq := tkR_eq hT hTq (by omega) yc51
          rw [eq] at k1 hf ⊢
          have kk := or_k c51
          omega
        by_cases z1 : q < p1
        · exact (ih _ _ _ _ _ _ _ _ e1 (by omega) sc51.2 (fun z => by omega) hT.s).2 q hTq (by omega) z1 k1 hf
        exfalso; omega
    · rw [if_neg c51] at h
      by_cases c53 : isSg u m p 40 = true
      · rw [if_pos c53] at h
        by_cases c54 : 24 ≤ dp
        · rw [if_pos c54] at h
          cases h
        · rw [if_neg c54] at h
          cases e1 : pS u m fd bk g 0 0 (dp + 1) (tkT u m p) acc with
          | none => rw [e1] at h; cases h
          | some r1 =>
          rw [e1] at h
          rcases r1 with e | ⟨D, N, p1⟩
          · dsimp only at h
            cases h
          dsimp only at h
          by_cases c55 : isSg u m p1 41 = true
          · rw [if_pos c55] at h
            have sc53 := sg_lt (u := u) hpm c53
            have f1 := pS_lt0 e1 (by omega) sc53.2
            have sc55 := sg_lt (u := u) f1.2 c55
            have t1 := (pS_rc g).1 _ _ acc hT.s D N p1 e1
            have h := Sum.inr.inj (Option.some.inj h)
            obtain ⟨hDD, hNP⟩ := Prod.mk.inj h
            obtain ⟨hNN, hPP⟩ := Prod.mk.inj hNP
            subst hDD hNN hPP
            refine ⟨fun z => absurd z (by omega), fun q hTq hq hq2 k1 hf => ?_⟩
            by_cases yc53 : q < tkT u m p
            · have eq := tkR_eq hT hTq (by omega) yc53
              rw [eq] at k1 hf ⊢
              have kk := (isSg_iff.mp c53).1
              omega
            by_cases z1 : q < p1
            · exact (ih _ _ _ _ _ _ _ _ e1 (by omega) sc53.2 (fun z => by omega) hT.s).2 q hTq (by omega) z1 k1 hf
            by_cases yc55 : q < tkT u m p1
            · have eq := tkR_eq t1 hTq (by omega) yc55
              rw [eq] at k1 hf ⊢
              have kk := (isSg_iff.mp c55).1
              omega
            exfalso; omega
          · rw [if_neg c55] at h
            cases h
      · rw [if_neg c53] at h
        by_cases c56 : tkK u m p = 2
        · rw [if_pos c56] at h
          have sc56 := k_lt (u := u) hpm (by rw [c56]; decide)
          have h := Sum.inr.inj (Option.some.inj h)
          obtain ⟨hDD, hNP⟩ := Prod.mk.inj h
          obtain ⟨hNN, hPP⟩ := Prod.mk.inj hNP
          subst hDD hNN hPP
          refine ⟨fun z => absurd z (by omega), fun q hTq hq hq2 k1 hf => ?_⟩
          by_cases yc56 : q < tkT u m p
          · have eq := tkR_eq hT hTq (by omega) yc56
            rw [eq] at k1 hf ⊢
            have kk := c56
            omega
          obtain ⟨eq, w⟩ := numD_w hT hTq (by omega) hq2
          have kk := hk q k1 (Or.inr w)
          omega
        · rw [if_neg c56] at h
          by_cases c57 : tkK u m p = 1
          · rw [if_pos c57] at h
            by_cases c58 : 0 ≤ fnW u m p
            · rw [if_pos c58] at h
              by_cases c59 : isSg u m (tkT u m p) 40 = true
              · rw [if_pos c59] at h
                by_cases c60 : 24 ≤ dp
                · rw [if_pos c60] at h
                  cases h
                · rw [if_neg c60] at h
                  cases e1 : pS u m fd bk g 0 0 (dp + 1) (tkT u m (tkT u m p)) acc with
                  | none => rw [e1] at h; cases h
                  | some r1 =>
                  rw [e1] at h
                  rcases r1 with e | ⟨D, N, p1⟩
                  · dsimp only at h
                    cases h
                  dsimp only at h
                  by_cases c61 : 4 < fnW u m p
                  · rw [if_pos c61] at h
                    by_cases c62 : isSg u m p1 41 = true
                    · rw [if_pos c62] at h
                      have sc57 := k_lt (u := u) hpm (by rw [c57]; decide)
                      have sc59 := sg_lt (u := u) sc57.2 c59
                      have f1 := pS_lt0 e1 (by omega) sc59.2
                      have sc62 := sg_lt (u := u) f1.2 c62
                      have t1 := (pS_rc g).1 _ _ acc hT.s.s D N p1 e1
                      have h := Sum.inr.inj (Option.some.inj h)
                      obtain ⟨hDD, hNP⟩ := Prod.mk.inj h
                      obtain ⟨hNN, hPP⟩ := Prod.mk.inj hNP
                      subst hDD hNN hPP
                      refine ⟨fun z => absurd z (by omega), fun q hTq hq hq2 k1 hf => ?_⟩
                      by_cases yc57 : q < tkT u m p
                      · have eq := tkR_eq hT hTq (by omega) yc57
                        rw [eq] at k1 hf ⊢
                        have kk := hk p k1 (Or.inl c58)
                        omega
                      by_cases yc59 : q < tkT u m (tkT u m p)
                      · have eq := tkR_eq hT.s hTq (by omega) yc59
                        rw [eq] at k1 hf ⊢
                        have kk := (isSg_iff.mp c59).1
                        omega
                      by_cases z1 : q < p1
                      · exact (ih _ _ _ _ _ _ _ _ e1 (by omega) sc59.2 (fun z => by omega) hT.s.s).2 q hTq (by omega) z1 k1 hf
                      by_cases yc62 : q < tkT u m p1
                      · have eq := tkR_eq t1 hTq (by omega) yc62
                        rw [eq] at k1 hf ⊢
                        have kk := (isSg_iff.mp c62).1
                        omega
                      exfalso; omega
                    · rw [if_neg c62] at h
                      cases h
                  · rw [if_neg c61] at h
                    by_cases c63 : isSg u m p1 44 = true
                    · rw [if_pos c63] at h
                      cases e2 : pS u m fd bk g 0 0 (dp + 1) (tkT u m p1) acc with
                      | none => rw [e2] at h; cases h
                      | some r2 =>
                      rw [e2] at h
                      rcases r2 with e | ⟨D2, N2, p2⟩
                      · dsimp only at h
                        cases h
                      dsimp only at h
                      by_cases c64 : fnW u m p < 4
                      · rw [if_pos c64] at h
                        by_cases c65 : isSg u m p2 41 = true
                        · rw [if_pos c65] at h
                          have sc57 := k_lt (u := u) hpm (by rw [c57]; decide)
                          have sc59 := sg_lt (u := u) sc57.2 c59
                          have f1 := pS_lt0 e1 (by omega) sc59.2
                          have sc63 := sg_lt (u := u) f1.2 c63
                          have f2 := pS_lt0 e2 (by omega) sc63.2
                          have sc65 := sg_lt (u := u) f2.2 c65
                          have t1 := (pS_rc g).1 _ _ acc hT.s.s D N p1 e1
                          have t2 := (pS_rc g).1 _ _ acc t1.s D2 N2 p2 e2
                          have h := Sum.inr.inj (Option.some.inj h)
                          obtain ⟨hDD, hNP⟩ := Prod.mk.inj h
                          obtain ⟨hNN, hPP⟩ := Prod.mk.inj hNP
                          subst hDD hNN hPP
                          refine ⟨fun z => absurd z (by omega), fun q hTq hq hq2 k1 hf => ?_⟩
                          by_cases yc57 : q < tkT u m p
                          · have eq := tkR_eq hT hTq (by omega) yc57
                            rw [eq] at k1 hf ⊢
                            have kk := hk p k1 (Or.inl c58)
                            omega
                          by_cases yc59 : q < tkT u m (tkT u m p)
                          · have eq := tkR_eq hT.s hTq (by omega) yc59
                            rw [eq] at k1 hf ⊢
                            have kk := (isSg_iff.mp c59).1
                            omega
                          by_cases z1 : q < p1
                          · exact orl ((ih _ _ _ _ _ _ _ _ e1 (by omega) sc59.2 (fun z => by omega) hT.s.s).2 q hTq (by omega) z1 k1 hf)
                          by_cases yc63 : q < tkT u m p1
                          · have eq := tkR_eq t1 hTq (by omega) yc63
                            rw [eq] at k1 hf ⊢
                            have kk := (isSg_iff.mp c63).1
                            omega
                          by_cases z2 : q < p2
                          · exact orr ((ih _ _ _ _ _ _ _ _ e2 (by omega) sc63.2 (fun z => by omega) t1.s).2 q hTq (by omega) z2 k1 hf)
                          by_cases yc65 : q < tkT u m p2
                          · have eq := tkR_eq t2 hTq (by omega) yc65
                            rw [eq] at k1 hf ⊢
                            have kk := (isSg_iff.mp c65).1
                            omega
                          exfalso; omega
                        · rw [if_neg c65] at h
                          cases h
                      · rw [if_neg c64] at h
                        by_cases c66 : isSg u m p2 44 = true
                        · rw [if_pos c66] at h
                          cases e3 : pS u m fd bk g 0 0 (dp + 1) (tkT u m p2) acc with
                          | none => rw [e3] at h; cases h
                          | some r3 =>
                          rw [e3] at h
                          rcases r3 with e | ⟨D3, N3, p3⟩
                          · dsimp only at h
                            cases h
                          dsimp only at h
                          by_cases c67 : isSg u m p3 41 = true
                          · rw [if_pos c67] at h
                            have sc57 := k_lt (u := u) hpm (by rw [c57]; decide)
                            have sc59 := sg_lt (u := u) sc57.2 c59
                            have f1 := pS_lt0 e1 (by omega) sc59.2
                            have sc63 := sg_lt (u := u) f1.2 c63
                            have f2 := pS_lt0 e2 (by omega) sc63.2
                            have sc66 := sg_lt (u := u) f2.2 c66
                            have f3 := pS_lt0 e3 (by omega) sc66.2
                            have sc67 := sg_lt (u := u) f3.2 c67
                            have t1 := (pS_rc g).1 _ _ acc hT.s.s D N p1 e1
                            have t2 := (pS_rc g).1 _ _ acc t1.s D2 N2 p2 e2
                            have t3 := (pS_rc g).1 _ _ acc t2.s D3 N3 p3 e3
                            have h := Sum.inr.inj (Option.some.inj h)
                            obtain ⟨hDD, hNP⟩ := Prod.mk.inj h
                            obtain ⟨hNN, hPP⟩ := Prod.mk.inj hNP
                            subst hDD hNN hPP
                            refine ⟨fun z => absurd z (by omega), fun q hTq hq hq2 k1 hf => ?_⟩
                            by_cases yc57 : q < tkT u m p
                            · have eq := tkR_eq hT hTq (by omega) yc57
                              rw [eq] at k1 hf ⊢
                              have kk := hk p k1 (Or.inl c58)
                              omega
                            by_cases yc59 : q < tkT u m (tkT u m p)
                            · have eq := tkR_eq hT.s hTq (by omega) yc59
                              rw [eq] at k1 hf ⊢
                              have kk := (isSg_iff.mp c59).1
                              omega
                            by_cases z1 : q < p1
                            · exact orl ((ih _ _ _ _ _ _ _ _ e1 (by omega) sc59.2 (fun z => by omega) hT.s.s).2 q hTq (by omega) z1 k1 hf)
                            by_cases yc63 : q < tkT u m p1
                            · have eq := tkR_eq t1 hTq (by omega) yc63
                              rw [eq] at k1 hf ⊢
                              have kk := (isSg_iff.mp c63).1
                              omega
                            by_cases z2 : q < p2
                            · exact orr (orl ((ih _ _ _ _ _ _ _ _ e2 (by omega) sc63.2 (fun z => by omega) t1.s).2 q hTq (by omega) z2 k1 hf))
                            by_cases yc66 : q < tkT u m p2
                            · have eq := tkR_eq t2 hTq (by omega) yc66
                              rw [eq] at k1 hf ⊢
                              have kk := (isSg_iff.mp c66).1
                              omega
                            by_cases z3 : q < p3
                            · exact orr (orr ((ih _ _ _ _ _ _ _ _ e3 (by omega) sc66.2 (fun z => by omega) t2.s).2 q hTq (by omega) z3 k1 hf))
                            by_cases yc67 : q < tkT u m p3
                            · have eq := tkR_eq t3 hTq (by omega) yc67
                              rw [eq] at k1 hf ⊢
                              have kk := (isSg_iff.mp c67).1
                              omega
                            exfalso; omega
                          · rw [if_neg c67] at h
                            cases h
                        · rw [if_neg c66] at h
                          cases h
                    · rw [if_neg c63] at h
                      cases h
              · rw [if_neg c59] at h
                cases h
            · rw [if_neg c58] at h
              by_cases c68 : fd p < 0
              · rw [if_pos c68] at h
                cases h
              · rw [if_neg c68] at h
                by_cases c69 : bk (fd p).toNat = true
                · rw [if_pos c69] at h
                  cases h
                · rw [if_neg c69] at h
                  have sc57 := k_lt (u := u) hpm (by rw [c57]; decide)
                  have h := Sum.inr.inj (Option.some.inj h)
                  obtain ⟨hDD, hNP⟩ := Prod.mk.inj h
                  obtain ⟨hNN, hPP⟩ := Prod.mk.inj hNP
                  subst hDD hNN hPP
                  refine ⟨fun z => absurd z (by omega), fun q hTq hq hq2 k1 hf => ?_⟩
                  by_cases yc57 : q < tkT u m p
                  · have eq := tkR_eq hT hTq (by omega) yc57
                    rw [eq] at k1 hf ⊢
                    exact decide_eq_true rfl
                  exfalso; omega
          · rw [if_neg c57] at h
            cases h
end ALL
