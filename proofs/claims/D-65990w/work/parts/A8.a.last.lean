/-! L3: reading: what was read ends with a sign -/
section LAST
variable {u : Nat → Int} {m : Nat} {fd : Nat → Int} {bk : Nat → Bool}
def LastT (u : Nat → Int) (m P : Nat) : Prop := ∃ r, tkK u m r ≠ 0 ∧ P = tkT u m r
theorem isWd_k {u : Nat → Int} {m p : Nat} {s : List Int} (w : isWd u m p s) : tkK u m p = 1 := w.1
theorem numD_last {p : Nat} (k2 : tkK u m p = 2) : LastT u m (numD u m p).2 := by
  unfold numD
  by_cases w1 : isWd u m (tkT u m p) [109, 109]
  · rw [itP_t w1]; exact ⟨_, by have := isWd_k w1; omega, rfl⟩
  rw [itP_f w1]
  by_cases w2 : isWd u m (tkT u m p) [99, 109]
  · rw [itP_t w2]; exact ⟨_, by have := isWd_k w2; omega, rfl⟩
  rw [itP_f w2]
  by_cases w3 : isWd u m (tkT u m p) [105, 110]
  · rw [itP_t w3]; exact ⟨_, by have := isWd_k w3; omega, rfl⟩
  rw [itP_f w3]
  exact ⟨p, by omega, rfl⟩
set_option maxHeartbeats 2000000 in
theorem pS_last : ∀ (g md : Nat) (lst : Int) (dp p : Nat) (acc : Dn × (Nat → Bool)) (D0 : Dn) (N0 : Nat → Bool) (P1 : Nat), pS u m fd bk g md lst dp p acc = some (.inr (D0, N0, P1)) → (md = 2 → LastT u m p) → LastT u m P1
  | 0, _, _, _, _, _, _, _, _, h, _ => by unfold pS at h; cases h
  | g + 1, md, lst, dp, p, acc, D0, N0, P1, h, hL => by
    have ih := pS_last g
    unfold pS at h
    by_cases m0 : md = 0
    · rw [if_pos m0] at h
      cases e1 : pS u m fd bk g 1 0 dp p acc with
      | none => rw [e1] at h; cases h
      | some r1 =>
      rw [e1] at h
      rcases r1 with e | ⟨D, N, p1⟩
      · dsimp only at h
        cases h
      dsimp only at h
      by_cases c1 : isSg u m p1 63 = true
      · rw [if_pos c1] at h
        by_cases c2 : 24 ≤ dp
        · rw [if_pos c2] at h
          cases h
        · rw [if_neg c2] at h
          cases e2 : pS u m fd bk g 0 0 (dp + 1) (tkT u m p1) acc with
          | none => rw [e2] at h; cases h
          | some r2 =>
          rw [e2] at h
          rcases r2 with e | ⟨D2, N2, p2⟩
          · dsimp only at h
            cases h
          dsimp only at h
          by_cases c3 : isSg u m p2 58 = true
          · rw [if_pos c3] at h
            cases e3 : pS u m fd bk g 0 0 (dp + 1) (tkT u m p2) acc with
            | none => rw [e3] at h; cases h
            | some r3 =>
            rw [e3] at h
            rcases r3 with e | ⟨D3, N3, p3⟩
            · dsimp only at h
              cases h
            dsimp only at h
            have h := Sum.inr.inj (Option.some.inj h)
            obtain ⟨hDD, hNP⟩ := Prod.mk.inj h
            obtain ⟨hNN, hPP⟩ := Prod.mk.inj hNP
            subst hPP
            exact ih _ _ _ _ _ _ _ _ e3 (fun z => absurd z (by decide))
          · rw [if_neg c3] at h
            cases h
      · rw [if_neg c1] at h
        have h := Sum.inr.inj (Option.some.inj h)
        obtain ⟨hDD, hNP⟩ := Prod.mk.inj h
        obtain ⟨hNN, hPP⟩ := Prod.mk.inj hNP
        subst hPP
        exact ih _ _ _ _ _ _ _ _ e1 (fun z => absurd z (by decide))
    rw [if_neg m0] at h
    by_cases m1 : md = 1
    · rw [if_pos m1] at h
      cases e1 : pS u m fd bk g 3 0 dp p acc with
      | none => rw [e1] at h; cases h
      | some r1 =>
      rw [e1] at h
      rcases r1 with e | ⟨D, N, p1⟩
      · dsimp only at h
        cases h
      dsimp only at h
      exact ih _ _ _ _ _ _ _ _ h (fun _ => ih _ _ _ _ _ _ _ _ e1 (fun z => absurd z (by decide)))
    rw [if_neg m1] at h
    by_cases m2 : md = 2
    · rw [if_pos m2] at h
      by_cases c4 : lst ≤ levF u m p
      · rw [if_pos c4] at h
        cases e1 : pS u m fd bk g 1 (levF u m p + 1) dp (tkT u m p) acc with
        | none => rw [e1] at h; cases h
        | some r1 =>
        rw [e1] at h
        rcases r1 with e | ⟨D, N, p1⟩
        · dsimp only at h
          cases h
        dsimp only at h
        exact ih _ _ _ _ _ _ _ _ h (fun _ => ih _ _ _ _ _ _ _ _ e1 (fun z => absurd z (by decide)))
      · rw [if_neg c4] at h
        have h := Sum.inr.inj (Option.some.inj h)
        obtain ⟨hDD, hNP⟩ := Prod.mk.inj h
        obtain ⟨hNN, hPP⟩ := Prod.mk.inj hNP
        subst hPP
        exact hL m2
    rw [if_neg m2] at h
    by_cases c5 : (isSg u m p 45 || isSg u m p 33) = true
    · rw [if_pos c5] at h
      by_cases c6 : 24 ≤ dp
      · rw [if_pos c6] at h
        cases h
      · rw [if_neg c6] at h
        cases e1 : pS u m fd bk g 3 0 (dp + 1) (tkT u m p) acc with
        | none => rw [e1] at h; cases h
        | some r1 =>
        rw [e1] at h
        rcases r1 with e | ⟨D, N, p1⟩
        · dsimp only at h
          cases h
        dsimp only at h
        have h := Sum.inr.inj (Option.some.inj h)
        obtain ⟨hDD, hNP⟩ := Prod.mk.inj h
        obtain ⟨hNN, hPP⟩ := Prod.mk.inj hNP
        subst hPP
        exact ih _ _ _ _ _ _ _ _ e1 (fun z => absurd z (by decide))
    · rw [if_neg c5] at h
      by_cases c7 : isSg u m p 40 = true
      · rw [if_pos c7] at h
        by_cases c8 : 24 ≤ dp
        · rw [if_pos c8] at h
          cases h
        · rw [if_neg c8] at h
          cases e1 : pS u m fd bk g 0 0 (dp + 1) (tkT u m p) acc with
          | none => rw [e1] at h; cases h
          | some r1 =>
          rw [e1] at h
          rcases r1 with e | ⟨D, N, p1⟩
          · dsimp only at h
            cases h
          dsimp only at h
          by_cases c9 : isSg u m p1 41 = true
          · rw [if_pos c9] at h
            have h := Sum.inr.inj (Option.some.inj h)
            obtain ⟨hDD, hNP⟩ := Prod.mk.inj h
            obtain ⟨hNN, hPP⟩ := Prod.mk.inj hNP
            subst hPP
            exact ⟨_, by have := (isSg_iff.mp c9).1; omega, rfl⟩
          · rw [if_neg c9] at h
            cases h
      · rw [if_neg c7] at h
        by_cases c10 : tkK u m p = 2
        · rw [if_pos c10] at h
          have h := Sum.inr.inj (Option.some.inj h)
          obtain ⟨hDD, hNP⟩ := Prod.mk.inj h
          obtain ⟨hNN, hPP⟩ := Prod.mk.inj hNP
          subst hPP
          exact numD_last c10
        · rw [if_neg c10] at h
          by_cases c11 : tkK u m p = 1
          · rw [if_pos c11] at h
            by_cases c12 : 0 ≤ fnW u m p
            · rw [if_pos c12] at h
              by_cases c13 : isSg u m (tkT u m p) 40 = true
              · rw [if_pos c13] at h
                by_cases c14 : 24 ≤ dp
                · rw [if_pos c14] at h
                  cases h
                · rw [if_neg c14] at h
                  cases e1 : pS u m fd bk g 0 0 (dp + 1) (tkT u m (tkT u m p)) acc with
                  | none => rw [e1] at h; cases h
                  | some r1 =>
                  rw [e1] at h
                  rcases r1 with e | ⟨D, N, p1⟩
                  · dsimp only at h
                    cases h
                  dsimp only at h
                  by_cases c15 : 4 < fnW u m p
                  · rw [if_pos c15] at h
                    by_cases c16 : isSg u m p1 41 = true
                    · rw [if_pos c16] at h
                      have h := Sum.inr.inj (Option.some.inj h)
                      obtain ⟨hDD, hNP⟩ := Prod.mk.inj h
                      obtain ⟨hNN, hPP⟩ := Prod.mk.inj hNP
                      subst hPP
                      exact ⟨_, by have := (isSg_iff.mp c16).1; omega, rfl⟩
                    · rw [if_neg c16] at h
                      cases h
                  · rw [if_neg c15] at h
                    by_cases c17 : isSg u m p1 44 = true
                    · rw [if_pos c17] at h
                      cases e2 : pS u m fd bk g 0 0 (dp + 1) (tkT u m p1) acc with
                      | none => rw [e2] at h; cases h
                      | some r2 =>
                      rw [e2] at h
                      rcases r2 with e | ⟨D2, N2, p2⟩
                      · dsimp only at h
                        cases h
                      dsimp only at h
                      by_cases c18 : fnW u m p < 4
                      · rw [if_pos c18] at h
                        by_cases c19 : isSg u m p2 41 = true
                        · rw [if_pos c19] at h
                          have h := Sum.inr.inj (Option.some.inj h)
                          obtain ⟨hDD, hNP⟩ := Prod.mk.inj h
                          obtain ⟨hNN, hPP⟩ := Prod.mk.inj hNP
                          subst hPP
                          exact ⟨_, by have := (isSg_iff.mp c19).1; omega, rfl⟩
                        · rw [if_neg c19] at h
                          cases h
                      · rw [if_neg c18] at h
                        by_cases c20 : isSg u m p2 44 = true
                        · rw [if_pos c20] at h
                          cases e3 : pS u m fd bk g 0 0 (dp + 1) (tkT u m p2) acc with
                          | none => rw [e3] at h; cases h
                          | some r3 =>
                          rw [e3] at h
                          rcases r3 with e | ⟨D3, N3, p3⟩
                          · dsimp only at h
                            cases h
                          dsimp only at h
                          by_cases c21 : isSg u m p3 41 = true
                          · rw [if_pos c21] at h
                            have h := Sum.inr.inj (Option.some.inj h)
                            obtain ⟨hDD, hNP⟩ := Prod.mk.inj h
                            obtain ⟨hNN, hPP⟩ := Prod.mk.inj hNP
                            subst hPP
                            exact ⟨_, by have := (isSg_iff.mp c21).1; omega, rfl⟩
                          · rw [if_neg c21] at h
                            cases h
                        · rw [if_neg c20] at h
                          cases h
                    · rw [if_neg c17] at h
                      cases h
              · rw [if_neg c13] at h
                cases h
            · rw [if_neg c12] at h
              by_cases c22 : fd p < 0
              · rw [if_pos c22] at h
                cases h
              · rw [if_neg c22] at h
                by_cases c23 : bk (fd p).toNat = true
                · rw [if_pos c23] at h
                  cases h
                · rw [if_neg c23] at h
                  have h := Sum.inr.inj (Option.some.inj h)
                  obtain ⟨hDD, hNP⟩ := Prod.mk.inj h
                  obtain ⟨hNN, hPP⟩ := Prod.mk.inj hNP
                  subst hPP
                  exact ⟨_, by omega, rfl⟩
          · rw [if_neg c11] at h
            cases h
end LAST
