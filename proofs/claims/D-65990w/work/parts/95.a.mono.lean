/-! L3: reading: more fuel changes nothing; where it ends -/
section MONO
variable {u : Nat → Int} {m : Nat} {fd : Nat → Int} {bk : Nat → Bool}
theorem pS_mono : ∀ (g md : Nat) (lst : Int) (dp p : Nat) (acc : Dn × (Nat → Bool)) (r : PR), pS u m fd bk g md lst dp p acc = some r → pS u m fd bk (g + 1) md lst dp p acc = some r
  | 0, _, _, _, _, _, _, h => by unfold pS at h; cases h
  | g + 1, md, lst, dp, p, acc, r, h => by
    have ih := pS_mono g
    unfold pS at h ⊢
    by_cases m0 : md = 0
    · rw [if_pos m0] at h ⊢
      cases e1 : pS u m fd bk g 1 0 dp p acc with
      | none => rw [e1] at h; cases h
      | some r1 =>
      rw [e1] at h
      rcases r1 with e | ⟨D, N, p1⟩
      · dsimp only at h
        rw [ih _ _ _ _ _ _ e1]
        dsimp only
        exact h
      dsimp only at h
      by_cases c1 : isSg u m p1 63 = true
      · rw [if_pos c1] at h
        by_cases c2 : 24 ≤ dp
        · rw [if_pos c2] at h
          rw [ih _ _ _ _ _ _ e1]
          dsimp only
          rw [if_pos c1]
          rw [if_pos c2]
          exact h
        · rw [if_neg c2] at h
          cases e2 : pS u m fd bk g 0 0 (dp + 1) (tkT u m p1) acc with
          | none => rw [e2] at h; cases h
          | some r2 =>
          rw [e2] at h
          rcases r2 with e | ⟨D2, N2, p2⟩
          · dsimp only at h
            rw [ih _ _ _ _ _ _ e1]
            dsimp only
            rw [if_pos c1]
            rw [if_neg c2]
            rw [ih _ _ _ _ _ _ e2]
            dsimp only
            exact h
          dsimp only at h
          by_cases c3 : isSg u m p2 58 = true
          · rw [if_pos c3] at h
            cases e3 : pS u m fd bk g 0 0 (dp + 1) (tkT u m p2) acc with
            | none => rw [e3] at h; cases h
            | some r3 =>
            rw [e3] at h
            rcases r3 with e | ⟨D3, N3, p3⟩
            · dsimp only at h
              rw [ih _ _ _ _ _ _ e1]
              dsimp only
              rw [if_pos c1]
              rw [if_neg c2]
              rw [ih _ _ _ _ _ _ e2]
              dsimp only
              rw [if_pos c3]
              rw [ih _ _ _ _ _ _ e3]
              dsimp only
              exact h
            dsimp only at h
            rw [ih _ _ _ _ _ _ e1]
            dsimp only
            rw [if_pos c1]
            rw [if_neg c2]
            rw [ih _ _ _ _ _ _ e2]
            dsimp only
            rw [if_pos c3]
            rw [ih _ _ _ _ _ _ e3]
            dsimp only
            exact h
          · rw [if_neg c3] at h
            rw [ih _ _ _ _ _ _ e1]
            dsimp only
            rw [if_pos c1]
            rw [if_neg c2]
            rw [ih _ _ _ _ _ _ e2]
            dsimp only
            rw [if_neg c3]
            exact h
      · rw [if_neg c1] at h
        rw [ih _ _ _ _ _ _ e1]
        dsimp only
        rw [if_neg c1]
        exact h
    rw [if_neg m0] at h ⊢
    by_cases m1 : md = 1
    · rw [if_pos m1] at h ⊢
      cases e1 : pS u m fd bk g 3 0 dp p acc with
      | none => rw [e1] at h; cases h
      | some r1 =>
      rw [e1] at h
      rcases r1 with e | ⟨D, N, p1⟩
      · dsimp only at h
        rw [ih _ _ _ _ _ _ e1]
        dsimp only
        exact h
      dsimp only at h
      rw [ih _ _ _ _ _ _ e1]
      dsimp only
      exact ih _ _ _ _ _ _ h
    rw [if_neg m1] at h ⊢
    by_cases m2 : md = 2
    · rw [if_pos m2] at h ⊢
      by_cases c4 : lst ≤ levF u m p
      · rw [if_pos c4] at h
        cases e1 : pS u m fd bk g 1 (levF u m p + 1) dp (tkT u m p) acc with
        | none => rw [e1] at h; cases h
        | some r1 =>
        rw [e1] at h
        rcases r1 with e | ⟨D, N, p1⟩
        · dsimp only at h
          rw [if_pos c4]
          rw [ih _ _ _ _ _ _ e1]
          dsimp only
          exact h
        dsimp only at h
        rw [if_pos c4]
        rw [ih _ _ _ _ _ _ e1]
        dsimp only
        exact ih _ _ _ _ _ _ h
      · rw [if_neg c4] at h
        rw [if_neg c4]
        exact h
    rw [if_neg m2] at h ⊢
    by_cases c5 : (isSg u m p 45 || isSg u m p 33) = true
    · rw [if_pos c5] at h
      by_cases c6 : 24 ≤ dp
      · rw [if_pos c6] at h
        rw [if_pos c5]
        rw [if_pos c6]
        exact h
      · rw [if_neg c6] at h
        cases e1 : pS u m fd bk g 3 0 (dp + 1) (tkT u m p) acc with
        | none => rw [e1] at h; cases h
        | some r1 =>
        rw [e1] at h
        rcases r1 with e | ⟨D, N, p1⟩
        · dsimp only at h
          rw [if_pos c5]
          rw [if_neg c6]
          rw [ih _ _ _ _ _ _ e1]
          dsimp only
          exact h
        dsimp only at h
        rw [if_pos c5]
        rw [if_neg c6]
        rw [ih _ _ _ _ _ _ e1]
        dsimp only
        exact h
    · rw [if_neg c5] at h
      by_cases c7 : isSg u m p 40 = true
      · rw [if_pos c7] at h
        by_cases c8 : 24 ≤ dp
        · rw [if_pos c8] at h
          rw [if_neg c5]
          rw [if_pos c7]
          rw [if_pos c8]
          exact h
        · rw [if_neg c8] at h
          cases e1 : pS u m fd bk g 0 0 (dp + 1) (tkT u m p) acc with
          | none => rw [e1] at h; cases h
          | some r1 =>
          rw [e1] at h
          rcases r1 with e | ⟨D, N, p1⟩
          · dsimp only at h
            rw [if_neg c5]
            rw [if_pos c7]
            rw [if_neg c8]
            rw [ih _ _ _ _ _ _ e1]
            dsimp only
            exact h
          dsimp only at h
          by_cases c9 : isSg u m p1 41 = true
          · rw [if_pos c9] at h
            rw [if_neg c5]
            rw [if_pos c7]
            rw [if_neg c8]
            rw [ih _ _ _ _ _ _ e1]
            dsimp only
            rw [if_pos c9]
            exact h
          · rw [if_neg c9] at h
            rw [if_neg c5]
            rw [if_pos c7]
            rw [if_neg c8]
            rw [ih _ _ _ _ _ _ e1]
            dsimp only
            rw [if_neg c9]
            exact h
      · rw [if_neg c7] at h
        by_cases c10 : tkK u m p = 2
        · rw [if_pos c10] at h
          rw [if_neg c5]
          rw [if_neg c7]
          rw [if_pos c10]
          exact h
        · rw [if_neg c10] at h
          by_cases c11 : tkK u m p = 1
          · rw [if_pos c11] at h
            by_cases c12 : 0 ≤ fnW u m p
            · rw [if_pos c12] at h
              by_cases c13 : isSg u m (tkT u m p) 40 = true
              · rw [if_pos c13] at h
                by_cases c14 : 24 ≤ dp
                · rw [if_pos c14] at h
                  rw [if_neg c5]
                  rw [if_neg c7]
                  rw [if_neg c10]
                  rw [if_pos c11]
                  rw [if_pos c12]
                  rw [if_pos c13]
                  rw [if_pos c14]
                  exact h
                · rw [if_neg c14] at h
                  cases e1 : pS u m fd bk g 0 0 (dp + 1) (tkT u m (tkT u m p)) acc with
                  | none => rw [e1] at h; cases h
                  | some r1 =>
                  rw [e1] at h
                  rcases r1 with e | ⟨D, N, p1⟩
                  · dsimp only at h
                    rw [if_neg c5]
                    rw [if_neg c7]
                    rw [if_neg c10]
                    rw [if_pos c11]
                    rw [if_pos c12]
                    rw [if_pos c13]
                    rw [if_neg c14]
                    rw [ih _ _ _ _ _ _ e1]
                    dsimp only
                    exact h
                  dsimp only at h
                  by_cases c15 : 4 < fnW u m p
                  · rw [if_pos c15] at h
                    by_cases c16 : isSg u m p1 41 = true
                    · rw [if_pos c16] at h
                      rw [if_neg c5]
                      rw [if_neg c7]
                      rw [if_neg c10]
                      rw [if_pos c11]
                      rw [if_pos c12]
                      rw [if_pos c13]
                      rw [if_neg c14]
                      rw [ih _ _ _ _ _ _ e1]
                      dsimp only
                      rw [if_pos c15]
                      rw [if_pos c16]
                      exact h
                    · rw [if_neg c16] at h
                      rw [if_neg c5]
                      rw [if_neg c7]
                      rw [if_neg c10]
                      rw [if_pos c11]
                      rw [if_pos c12]
                      rw [if_pos c13]
                      rw [if_neg c14]
                      rw [ih _ _ _ _ _ _ e1]
                      dsimp only
                      rw [if_pos c15]
                      rw [if_neg c16]
                      exact h
                  · rw [if_neg c15] at h
                    by_cases c17 : isSg u m p1 44 = true
                    · rw [if_pos c17] at h
                      cases e2 : pS u m fd bk g 0 0 (dp + 1) (tkT u m p1) acc with
                      | none => rw [e2] at h; cases h
                      | some r2 =>
                      rw [e2] at h
                      rcases r2 with e | ⟨D2, N2, p2⟩
                      · dsimp only at h
                        rw [if_neg c5]
                        rw [if_neg c7]
                        rw [if_neg c10]
                        rw [if_pos c11]
                        rw [if_pos c12]
                        rw [if_pos c13]
                        rw [if_neg c14]
                        rw [ih _ _ _ _ _ _ e1]
                        dsimp only
                        rw [if_neg c15]
                        rw [if_pos c17]
                        rw [ih _ _ _ _ _ _ e2]
                        dsimp only
                        exact h
                      dsimp only at h
                      by_cases c18 : fnW u m p < 4
                      · rw [if_pos c18] at h
                        by_cases c19 : isSg u m p2 41 = true
                        · rw [if_pos c19] at h
                          rw [if_neg c5]
                          rw [if_neg c7]
                          rw [if_neg c10]
                          rw [if_pos c11]
                          rw [if_pos c12]
                          rw [if_pos c13]
                          rw [if_neg c14]
                          rw [ih _ _ _ _ _ _ e1]
                          dsimp only
                          rw [if_neg c15]
                          rw [if_pos c17]
                          rw [ih _ _ _ _ _ _ e2]
                          dsimp only
                          rw [if_pos c18]
                          rw [if_pos c19]
                          exact h
                        · rw [if_neg c19] at h
                          rw [if_neg c5]
                          rw [if_neg c7]
                          rw [if_neg c10]
                          rw [if_pos c11]
                          rw [if_pos c12]
                          rw [if_pos c13]
                          rw [if_neg c14]
                          rw [ih _ _ _ _ _ _ e1]
                          dsimp only
                          rw [if_neg c15]
                          rw [if_pos c17]
                          rw [ih _ _ _ _ _ _ e2]
                          dsimp only
                          rw [if_pos c18]
                          rw [if_neg c19]
                          exact h
                      · rw [if_neg c18] at h
                        by_cases c20 : isSg u m p2 44 = true
                        · rw [if_pos c20] at h
                          cases e3 : pS u m fd bk g 0 0 (dp + 1) (tkT u m p2) acc with
                          | none => rw [e3] at h; cases h
                          | some r3 =>
                          rw [e3] at h
                          rcases r3 with e | ⟨D3, N3, p3⟩
                          · dsimp only at h
                            rw [if_neg c5]
                            rw [if_neg c7]
                            rw [if_neg c10]
                            rw [if_pos c11]
                            rw [if_pos c12]
                            rw [if_pos c13]
                            rw [if_neg c14]
                            rw [ih _ _ _ _ _ _ e1]
                            dsimp only
                            rw [if_neg c15]
                            rw [if_pos c17]
                            rw [ih _ _ _ _ _ _ e2]
                            dsimp only
                            rw [if_neg c18]
                            rw [if_pos c20]
                            rw [ih _ _ _ _ _ _ e3]
                            dsimp only
                            exact h
                          dsimp only at h
                          by_cases c21 : isSg u m p3 41 = true
                          · rw [if_pos c21] at h
                            rw [if_neg c5]
                            rw [if_neg c7]
                            rw [if_neg c10]
                            rw [if_pos c11]
                            rw [if_pos c12]
                            rw [if_pos c13]
                            rw [if_neg c14]
                            rw [ih _ _ _ _ _ _ e1]
                            dsimp only
                            rw [if_neg c15]
                            rw [if_pos c17]
                            rw [ih _ _ _ _ _ _ e2]
                            dsimp only
                            rw [if_neg c18]
                            rw [if_pos c20]
                            rw [ih _ _ _ _ _ _ e3]
                            dsimp only
                            rw [if_pos c21]
                            exact h
                          · rw [if_neg c21] at h
                            rw [if_neg c5]
                            rw [if_neg c7]
                            rw [if_neg c10]
                            rw [if_pos c11]
                            rw [if_pos c12]
                            rw [if_pos c13]
                            rw [if_neg c14]
                            rw [ih _ _ _ _ _ _ e1]
                            dsimp only
                            rw [if_neg c15]
                            rw [if_pos c17]
                            rw [ih _ _ _ _ _ _ e2]
                            dsimp only
                            rw [if_neg c18]
                            rw [if_pos c20]
                            rw [ih _ _ _ _ _ _ e3]
                            dsimp only
                            rw [if_neg c21]
                            exact h
                        · rw [if_neg c20] at h
                          rw [if_neg c5]
                          rw [if_neg c7]
                          rw [if_neg c10]
                          rw [if_pos c11]
                          rw [if_pos c12]
                          rw [if_pos c13]
                          rw [if_neg c14]
                          rw [ih _ _ _ _ _ _ e1]
                          dsimp only
                          rw [if_neg c15]
                          rw [if_pos c17]
                          rw [ih _ _ _ _ _ _ e2]
                          dsimp only
                          rw [if_neg c18]
                          rw [if_neg c20]
                          exact h
                    · rw [if_neg c17] at h
                      rw [if_neg c5]
                      rw [if_neg c7]
                      rw [if_neg c10]
                      rw [if_pos c11]
                      rw [if_pos c12]
                      rw [if_pos c13]
                      rw [if_neg c14]
                      rw [ih _ _ _ _ _ _ e1]
                      dsimp only
                      rw [if_neg c15]
                      rw [if_neg c17]
                      exact h
              · rw [if_neg c13] at h
                rw [if_neg c5]
                rw [if_neg c7]
                rw [if_neg c10]
                rw [if_pos c11]
                rw [if_pos c12]
                rw [if_neg c13]
                exact h
            · rw [if_neg c12] at h
              by_cases c22 : fd p < 0
              · rw [if_pos c22] at h
                rw [if_neg c5]
                rw [if_neg c7]
                rw [if_neg c10]
                rw [if_pos c11]
                rw [if_neg c12]
                rw [if_pos c22]
                exact h
              · rw [if_neg c22] at h
                by_cases c23 : bk (fd p).toNat = true
                · rw [if_pos c23] at h
                  rw [if_neg c5]
                  rw [if_neg c7]
                  rw [if_neg c10]
                  rw [if_pos c11]
                  rw [if_neg c12]
                  rw [if_neg c22]
                  rw [if_pos c23]
                  exact h
                · rw [if_neg c23] at h
                  rw [if_neg c5]
                  rw [if_neg c7]
                  rw [if_neg c10]
                  rw [if_pos c11]
                  rw [if_neg c12]
                  rw [if_neg c22]
                  rw [if_neg c23]
                  exact h
          · rw [if_neg c11] at h
            rw [if_neg c5]
            rw [if_neg c7]
            rw [if_neg c10]
            rw [if_neg c11]
            exact h
end MONO
/-- what was read lies behind, within the text -/
theorem pS_up {u : Nat → Int} {m : Nat} {fd : Nat → Int} {bk : Nat → Bool} {g md : Nat} {lst : Int} {dp p : Nat} {acc : Dn × (Nat → Bool)} {r : PR} (h : pS u m fd bk g md lst dp p acc = some r) : ∀ k, pS u m fd bk (g + k) md lst dp p acc = some r
  | 0 => h
  | k + 1 => pS_mono (g + k) md lst dp p acc r (pS_up h k)
theorem pS_same {u : Nat → Int} {m : Nat} {fd : Nat → Int} {bk : Nat → Bool} {g g' md : Nat} {lst : Int} {dp p : Nat} {acc : Dn × (Nat → Bool)} {r r' : PR} (h : pS u m fd bk g md lst dp p acc = some r) (h' : pS u m fd bk g' md lst dp p acc = some r') : r = r' := by
  have a := pS_up h g'
  have b := pS_up h' g
  rw [Nat.add_comm g' g] at b
  exact Option.some.inj (a.symm.trans b)
section LT
variable {u : Nat → Int} {m : Nat} {fd : Nat → Int} {bk : Nat → Bool} {g : Nat} {lst : Int} {dp p : Nat} {acc : Dn × (Nat → Bool)} {D : Dn} {N : Nat → Bool} {p' : Nat}
theorem pS_lt0 (h : pS u m fd bk g 0 lst dp p acc = some (.inr (D, N, p'))) (hl : lst = 0) (hp : p ≤ m) : p < p' ∧ p' ≤ m := by
  subst hl
  obtain ⟨r, e, k⟩ := (pS_ok (u := u) (m := m) (fd := fd) (bk := bk) (g + (4 * m + 4))).1 dp p acc hp (by omega)
  have e2 := pS_up h (4 * m + 4)
  exact k D N p' (Option.some.inj (e.symm.trans e2))
theorem pS_lt1 (h : pS u m fd bk g 1 lst dp p acc = some (.inr (D, N, p'))) (hl : 0 ≤ lst) (hp : p ≤ m) : p < p' ∧ p' ≤ m := by
  obtain ⟨r, e, k⟩ := (pS_ok (u := u) (m := m) (fd := fd) (bk := bk) (g + (4 * m + 4))).2.1 lst dp p acc hl hp (by omega)
  have e2 := pS_up h (4 * m + 4)
  exact k D N p' (Option.some.inj (e.symm.trans e2))
theorem pS_lt3 (h : pS u m fd bk g 3 lst dp p acc = some (.inr (D, N, p'))) (hl : lst = 0) (hp : p ≤ m) : p < p' ∧ p' ≤ m := by
  subst hl
  obtain ⟨r, e, k⟩ := (pS_ok (u := u) (m := m) (fd := fd) (bk := bk) (g + (4 * m + 4))).2.2.2 dp p acc hp (by omega)
  have e2 := pS_up h (4 * m + 4)
  exact k D N p' (Option.some.inj (e.symm.trans e2))
theorem pS_lt2 (h : pS u m fd bk g 2 lst dp p acc = some (.inr (D, N, p'))) (hl : 0 ≤ lst) (hp : p ≤ m) (hp0 : 0 < p) : p ≤ p' ∧ p' ≤ m := by
  obtain ⟨r, e, k⟩ := (pS_ok (u := u) (m := m) (fd := fd) (bk := bk) (g + (4 * m + 4))).2.2.1 lst dp (p - 1) p acc hl (by omega) hp (by omega)
  have e2 := pS_up h (4 * m + 4)
  have := k D N p' (Option.some.inj (e.symm.trans e2))
  omega
theorem or_lt {p : Nat} (hp : p ≤ m) (h : (isSg u m p 45 || isSg u m p 33) = true) : p < tkT u m p ∧ tkT u m p ≤ m := by
  rw [Bool.or_eq_true] at h
  exact h.elim (sg_lt hp) (sg_lt hp)
end LT
