/-! L3: reading at another place -/
/-- the same signs, by s further on, up to P -/
def TA (u : Nat → Int) (m : Nat) (fd u' : Nat → Int) (m' : Nat) (fd' : Nat → Int) (s P : Nat) : Prop :=
  (∀ q, s ≤ q → q ≤ P → (∀ x : Int, x ≠ 59 → isSg u' m' (q - s) x = isSg u m q x) ∧ levF u' m' (q - s) = levF u m q ∧ ∀ w, isWd u' m' (q - s) w ↔ isWd u m q w) ∧
  (∀ q, s ≤ q → q < P → tkT u' m' (q - s) = tkT u m q - s ∧ tkK u' m' (q - s) = tkK u m q ∧ tkS u' m' (q - s) = tkS u m q ∧ (tkK u m q = 2 → nAb u' m' (tkF u' m' (q - s)) = nAb u m (tkF u m q) ∧ nBe u' m' (tkF u' m' (q - s)) = nBe u m (tkF u m q)) ∧ (tkK u m q = 1 → 0 ≤ fd q → fd' (q - s) = fd q))
section MV
variable {u : Nat → Int} {m : Nat} {fd : Nat → Int} {bk : Nat → Bool} {u' : Nat → Int} {m' : Nat} {fd' : Nat → Int} {bk' : Nat → Bool} {s P : Nat}
theorem itP_iff {α : Type} {X Y : Prop} {a b a' b' : α} (h : X ↔ Y) (h1 : a = a') (h2 : b = b') : itP X a b = itP Y a' b' := by rw [propext h, h1, h2]
theorem fnW_mv (ta : TA u m fd u' m' fd' s P) {p : Nat} (_ : p ≤ m) (hs : s ≤ p) (hp : p ≤ P) : fnW u' m' (p - s) = fnW u m p := by
  have w := (ta.1 p hs hp).2.2
  have key : ∀ (l : List (List Int)) (i : Int), fnI u' m' (p - s) l i = fnI u m p l i := by
    intro l
    induction l with
    | nil => intro i; rfl
    | cons a l ih => intro i; exact itP_iff (w a) rfl (ih (i + 1))
  exact key fnS 0
theorem numD_gt {p : Nat} (hp : p ≤ m) (k2 : tkK u m p = 2) : p < (numD u m p).2 ∧ tkT u m p ≤ (numD u m p).2 ∧ (numD u m p).2 ≤ m := by
  obtain ⟨-, a, b⟩ := numD_ok hp k2
  obtain ⟨s1, s2⟩ := k_lt (u := u) hp (by rw [k2]; decide)
  refine ⟨a, ?_, b⟩
  obtain ⟨t1, t2, t3⟩ := tk_le (u := u) (p := tkT u m p) s2
  unfold numD
  by_cases w1 : isWd u m (tkT u m p) [109, 109]
  · rw [itP_t w1]; dsimp only; omega
  rw [itP_f w1]
  by_cases w2 : isWd u m (tkT u m p) [99, 109]
  · rw [itP_t w2]; dsimp only; omega
  rw [itP_f w2]
  by_cases w3 : isWd u m (tkT u m p) [105, 110]
  · rw [itP_t w3]; dsimp only; omega
  rw [itP_f w3]; exact Nat.le_refl _
theorem numD_mv (ta : TA u m fd u' m' fd' s P) {p : Nat} (hp : p ≤ m) (hs : s ≤ p) (hP : p < P) (hN : (numD u m p).2 ≤ P) (k2 : tkK u m p = 2) : numD u' m' (p - s) = ((numD u m p).1, (numD u m p).2 - s) := by
  obtain ⟨g1, g2, g3⟩ := numD_gt (u := u) hp k2
  obtain ⟨s1, s2⟩ := k_lt (u := u) hp (by rw [k2]; decide)
  obtain ⟨a1, a2, a3, a4, a5⟩ := ta.2 p hs hP
  obtain ⟨b1, b2⟩ := a4 k2
  have w := (ta.1 (tkT u m p) (by omega) (by omega)).2.2
  have wd : ∀ x, isWd u m (tkT u m p) x → (numD u m p).2 = tkT u m (tkT u m p) → tkT u' m' (tkT u m p - s) = tkT u m (tkT u m p) - s := fun x hx e => by
    have k1 := hx.1
    obtain ⟨z1, z2⟩ := k_lt (u := u) s2 (by rw [k1]; decide)
    exact (ta.2 (tkT u m p) (by omega) (by omega)).1
  unfold numD at hN wd ⊢
  rw [a1, b1, b2]
  by_cases w1 : isWd u m (tkT u m p) [109, 109]
  · rw [itP_t w1] at wd ⊢
    rw [itP_t ((w _).mpr w1), wd _ w1 rfl]
  rw [itP_f w1] at wd ⊢
  rw [itP_f (fun z => w1 ((w _).mp z))]
  by_cases w2 : isWd u m (tkT u m p) [99, 109]
  · rw [itP_t w2] at wd ⊢
    rw [itP_t ((w _).mpr w2), wd _ w2 rfl]
  rw [itP_f w2] at wd ⊢
  rw [itP_f (fun z => w2 ((w _).mp z))]
  by_cases w3 : isWd u m (tkT u m p) [105, 110]
  · rw [itP_t w3] at wd ⊢
    rw [itP_t ((w _).mpr w3), wd _ w3 rfl]
  rw [itP_f w3] at wd ⊢
  rw [itP_f (fun z => w3 ((w _).mp z))]
set_option maxHeartbeats 2000000 in
theorem pS_mv (ta : TA u m fd u' m' fd' s P) (hb : ∀ v, bk' v = false) : ∀ (g md : Nat) (lst : Int) (dp p : Nat) (acc : Dn × (Nat → Bool)) (D0 : Dn) (N0 : Nat → Bool) (P1 : Nat), pS u m fd bk g md lst dp p acc = some (.inr (D0, N0, P1)) → s ≤ p → 0 ≤ lst → p ≤ m → P1 ≤ P → (md = 2 → 0 < p) → pS u' m' fd' bk' g md lst dp (p - s) acc = some (.inr (D0, N0, P1 - s))
  | 0, _, _, _, _, _, _, _, _, h, _, _, _, _, _ => by unfold pS at h; cases h
  | g + 1, md, lst, dp, p, acc, D0, N0, P1, h, hs, hl, hpm, hP, h2p => by
    have ih := pS_mv ta hb g
    unfold pS at h ⊢
    by_cases m0 : md = 0
    · rw [if_pos m0] at h ⊢
      cases e1 : pS u m fd bk g 1 0 dp p acc with
      | none => rw [e1] at h; cases h
      | some r1 =>
      rw [e1] at h
      rcases r1 with e | ⟨D, N, p1⟩
      · dsimp only at h
        cases h
      dsimp only at h
      by_cases c24 : isSg u m p1 63 = true
      · rw [if_pos c24] at h
        by_cases c25 : 24 ≤ dp
        · rw [if_pos c25] at h
          cases h
        · rw [if_neg c25] at h
          cases e2 : pS u m fd bk g 0 0 (dp + 1) (tkT u m p1) acc with
          | none => rw [e2] at h; cases h
          | some r2 =>
          rw [e2] at h
          rcases r2 with e | ⟨D2, N2, p2⟩
          · dsimp only at h
            cases h
          dsimp only at h
          by_cases c26 : isSg u m p2 58 = true
          · rw [if_pos c26] at h
            cases e3 : pS u m fd bk g 0 0 (dp + 1) (tkT u m p2) acc with
            | none => rw [e3] at h; cases h
            | some r3 =>
            rw [e3] at h
            rcases r3 with e | ⟨D3, N3, p3⟩
            · dsimp only at h
              cases h
            dsimp only at h
            have f1 := pS_lt1 e1 (by omega) hpm
            have sc24 := sg_lt (u := u) f1.2 c24
            have f2 := pS_lt0 e2 (by omega) sc24.2
            have sc26 := sg_lt (u := u) f2.2 c26
            have f3 := pS_lt0 e3 (by omega) sc26.2
            have h := Sum.inr.inj (Option.some.inj h)
            obtain ⟨hDD, hNP⟩ := Prod.mk.inj h
            obtain ⟨hNN, hPP⟩ := Prod.mk.inj hNP
            subst hDD hNN hPP
            rw [ih _ _ _ _ _ _ _ _ e1 (by omega) (by omega) hpm (by omega) (fun z => by omega)]
            try dsimp only
            rw [(ta.1 p1 (by omega) (by omega)).1 63 (by decide), if_pos c24]
            rw [if_neg c25]
            rw [(ta.2 p1 (by omega) (by omega)).1]
            rw [ih _ _ _ _ _ _ _ _ e2 (by omega) (by omega) sc24.2 (by omega) (fun z => by omega)]
            try dsimp only
            rw [(ta.1 p2 (by omega) (by omega)).1 58 (by decide), if_pos c26]
            rw [(ta.2 p2 (by omega) (by omega)).1]
            rw [ih _ _ _ _ _ _ _ _ e3 (by omega) (by omega) sc26.2 (by omega) (fun z => by omega)]
            try dsimp only
          · rw [if_neg c26] at h
            cases h
      · rw [if_neg c24] at h
        have f1 := pS_lt1 e1 (by omega) hpm
        have h := Sum.inr.inj (Option.some.inj h)
        obtain ⟨hDD, hNP⟩ := Prod.mk.inj h
        obtain ⟨hNN, hPP⟩ := Prod.mk.inj hNP
        subst hDD hNN hPP
        rw [ih _ _ _ _ _ _ _ _ e1 (by omega) (by omega) hpm (by omega) (fun z => by omega)]
        try dsimp only
        rw [(ta.1 p1 (by omega) (by omega)).1 63 (by decide), if_neg c24]
    rw [if_neg m0] at h ⊢
    by_cases m1 : md = 1
    · rw [if_pos m1] at h ⊢
      cases e1 : pS u m fd bk g 3 0 dp p acc with
      | none => rw [e1] at h; cases h
      | some r1 =>
      rw [e1] at h
      rcases r1 with e | ⟨D, N, p1⟩
      · dsimp only at h
        cases h
      dsimp only at h
      have f1 := pS_lt3 e1 (by omega) hpm
      have fT := pS_lt2 h hl f1.2 (by omega)
      rw [ih _ _ _ _ _ _ _ _ e1 (by omega) (by omega) hpm (by omega) (fun z => by omega)]
      try dsimp only
      exact ih _ _ _ _ _ _ _ _ h (by omega) hl f1.2 hP (fun _ => by omega)
    rw [if_neg m1] at h ⊢
    by_cases m2 : md = 2
    · rw [if_pos m2] at h ⊢
      by_cases c27 : lst ≤ levF u m p
      · rw [if_pos c27] at h
        cases e1 : pS u m fd bk g 1 (levF u m p + 1) dp (tkT u m p) acc with
        | none => rw [e1] at h; cases h
        | some r1 =>
        rw [e1] at h
        rcases r1 with e | ⟨D, N, p1⟩
        · dsimp only at h
          cases h
        dsimp only at h
        have sc27 := lev_lt (u := u) hpm hl c27
        have f1 := pS_lt1 e1 (by omega) sc27.2
        have fT := pS_lt2 h hl f1.2 (by omega)
        rw [(ta.1 p (by omega) (by omega)).2.1, if_pos c27]
        rw [(ta.2 p (by omega) (by omega)).1]
        rw [ih _ _ _ _ _ _ _ _ e1 (by omega) (by omega) sc27.2 (by omega) (fun z => by omega)]
        try dsimp only
        rw [(ta.2 p (by omega) (by omega)).2.2.1]
        exact ih _ _ _ _ _ _ _ _ h (by omega) hl f1.2 hP (fun _ => by omega)
      · rw [if_neg c27] at h
        have h := Sum.inr.inj (Option.some.inj h)
        obtain ⟨hDD, hNP⟩ := Prod.mk.inj h
        obtain ⟨hNN, hPP⟩ := Prod.mk.inj hNP
        subst hDD hNN hPP
        rw [(ta.1 p (by omega) (by omega)).2.1, if_neg c27]
    rw [if_neg m2] at h ⊢
    by_cases c28 : (isSg u m p 45 || isSg u m p 33) = true
    · rw [if_pos c28] at h
      by_cases c29 : 24 ≤ dp
      · rw [if_pos c29] at h
        cases h
      · rw [if_neg c29] at h
        cases e1 : pS u m fd bk g 3 0 (dp + 1) (tkT u m p) acc with
        | none => rw [e1] at h; cases h
        | some r1 =>
        rw [e1] at h
        rcases r1 with e | ⟨D, N, p1⟩
        · dsimp only at h
          cases h
        dsimp only at h
        have sc28 := or_lt (u := u) hpm c28
        have f1 := pS_lt3 e1 (by omega) sc28.2
        have h := Sum.inr.inj (Option.some.inj h)
        obtain ⟨hDD, hNP⟩ := Prod.mk.inj h
        obtain ⟨hNN, hPP⟩ := Prod.mk.inj hNP
        subst hDD hNN hPP
        rw [(ta.1 p (by omega) (by omega)).1 45 (by decide), (ta.1 p (by omega) (by omega)).1 33 (by decide), if_pos c28]
        rw [if_neg c29]
        rw [(ta.2 p (by omega) (by omega)).1]
        rw [ih _ _ _ _ _ _ _ _ e1 (by omega) (by omega) sc28.2 (by omega) (fun z => by omega)]
        try dsimp only
    · rw [if_neg c28] at h
      by_cases c30 : isSg u m p 40 = true
      · rw [if_pos c30] at h
        by_cases c31 : 24 ≤ dp
        · rw [if_pos c31] at h
          cases h
        · rw [if_neg c31] at h
          cases e1 : pS u m fd bk g 0 0 (dp + 1) (tkT u m p) acc with
          | none => rw [e1] at h; cases h
          | some r1 =>
          rw [e1] at h
          rcases r1 with e | ⟨D, N, p1⟩
          · dsimp only at h
            cases h
          dsimp only at h
          by_cases c32 : isSg u m p1 41 = true
          · rw [if_pos c32] at h
            have sc30 := sg_lt (u := u) hpm c30
            have f1 := pS_lt0 e1 (by omega) sc30.2
            have sc32 := sg_lt (u := u) f1.2 c32
            have h := Sum.inr.inj (Option.some.inj h)
            obtain ⟨hDD, hNP⟩ := Prod.mk.inj h
            obtain ⟨hNN, hPP⟩ := Prod.mk.inj hNP
            subst hDD hNN hPP
            rw [(ta.1 p (by omega) (by omega)).1 45 (by decide), (ta.1 p (by omega) (by omega)).1 33 (by decide), if_neg c28]
            rw [(ta.1 p (by omega) (by omega)).1 40 (by decide), if_pos c30]
            rw [if_neg c31]
            rw [(ta.2 p (by omega) (by omega)).1]
            rw [ih _ _ _ _ _ _ _ _ e1 (by omega) (by omega) sc30.2 (by omega) (fun z => by omega)]
            try dsimp only
            rw [(ta.1 p1 (by omega) (by omega)).1 41 (by decide), if_pos c32]
            rw [(ta.2 p1 (by omega) (by omega)).1]
          · rw [if_neg c32] at h
            cases h
      · rw [if_neg c30] at h
        by_cases c33 : tkK u m p = 2
        · rw [if_pos c33] at h
          have sc33 := k_lt (u := u) hpm (by rw [c33]; decide)
          have h := Sum.inr.inj (Option.some.inj h)
          obtain ⟨hDD, hNP⟩ := Prod.mk.inj h
          obtain ⟨hNN, hPP⟩ := Prod.mk.inj hNP
          subst hDD hNN hPP
          have fN := numD_gt (u := u) hpm c33
          rw [(ta.1 p (by omega) (by omega)).1 45 (by decide), (ta.1 p (by omega) (by omega)).1 33 (by decide), if_neg c28]
          rw [(ta.1 p (by omega) (by omega)).1 40 (by decide), if_neg c30]
          rw [(ta.2 p (by omega) (by omega)).2.1, if_pos c33]
          rw [numD_mv ta hpm (by omega) (by omega) (by omega) c33]
        · rw [if_neg c33] at h
          by_cases c34 : tkK u m p = 1
          · rw [if_pos c34] at h
            by_cases c35 : 0 ≤ fnW u m p
            · rw [if_pos c35] at h
              by_cases c36 : isSg u m (tkT u m p) 40 = true
              · rw [if_pos c36] at h
                by_cases c37 : 24 ≤ dp
                · rw [if_pos c37] at h
                  cases h
                · rw [if_neg c37] at h
                  cases e1 : pS u m fd bk g 0 0 (dp + 1) (tkT u m (tkT u m p)) acc with
                  | none => rw [e1] at h; cases h
                  | some r1 =>
                  rw [e1] at h
                  rcases r1 with e | ⟨D, N, p1⟩
                  · dsimp only at h
                    cases h
                  dsimp only at h
                  by_cases c38 : 4 < fnW u m p
                  · rw [if_pos c38] at h
                    by_cases c39 : isSg u m p1 41 = true
                    · rw [if_pos c39] at h
                      have sc34 := k_lt (u := u) hpm (by rw [c34]; decide)
                      have sc36 := sg_lt (u := u) sc34.2 c36
                      have f1 := pS_lt0 e1 (by omega) sc36.2
                      have sc39 := sg_lt (u := u) f1.2 c39
                      have h := Sum.inr.inj (Option.some.inj h)
                      obtain ⟨hDD, hNP⟩ := Prod.mk.inj h
                      obtain ⟨hNN, hPP⟩ := Prod.mk.inj hNP
                      subst hDD hNN hPP
                      rw [(ta.1 p (by omega) (by omega)).1 45 (by decide), (ta.1 p (by omega) (by omega)).1 33 (by decide), if_neg c28]
                      rw [(ta.1 p (by omega) (by omega)).1 40 (by decide), if_neg c30]
                      rw [(ta.2 p (by omega) (by omega)).2.1, if_neg c33]
                      rw [if_pos c34]
                      rw [fnW_mv ta hpm (by omega) (by omega)]
                      rw [if_pos c35]
                      rw [(ta.2 p (by omega) (by omega)).1]
                      rw [(ta.1 (tkT u m p) (by omega) (by omega)).1 40 (by decide), if_pos c36]
                      rw [if_neg c37]
                      rw [(ta.2 (tkT u m p) (by omega) (by omega)).1]
                      rw [ih _ _ _ _ _ _ _ _ e1 (by omega) (by omega) sc36.2 (by omega) (fun z => by omega)]
                      try dsimp only
                      rw [if_pos c38]
                      rw [(ta.1 p1 (by omega) (by omega)).1 41 (by decide), if_pos c39]
                      rw [(ta.2 p1 (by omega) (by omega)).1]
                    · rw [if_neg c39] at h
                      cases h
                  · rw [if_neg c38] at h
                    by_cases c40 : isSg u m p1 44 = true
                    · rw [if_pos c40] at h
                      cases e2 : pS u m fd bk g 0 0 (dp + 1) (tkT u m p1) acc with
                      | none => rw [e2] at h; cases h
                      | some r2 =>
                      rw [e2] at h
                      rcases r2 with e | ⟨D2, N2, p2⟩
                      · dsimp only at h
                        cases h
                      dsimp only at h
                      by_cases c41 : fnW u m p < 4
                      · rw [if_pos c41] at h
                        by_cases c42 : isSg u m p2 41 = true
                        · rw [if_pos c42] at h
                          have sc34 := k_lt (u := u) hpm (by rw [c34]; decide)
                          have sc36 := sg_lt (u := u) sc34.2 c36
                          have f1 := pS_lt0 e1 (by omega) sc36.2
                          have sc40 := sg_lt (u := u) f1.2 c40
                          have f2 := pS_lt0 e2 (by omega) sc40.2
                          have sc42 := sg_lt (u := u) f2.2 c42
                          have h := Sum.inr.inj (Option.some.inj h)
                          obtain ⟨hDD, hNP⟩ := Prod.mk.inj h
                          obtain ⟨hNN, hPP⟩ := Prod.mk.inj hNP
                          subst hDD hNN hPP
                          rw [(ta.1 p (by omega) (by omega)).1 45 (by decide), (ta.1 p (by omega) (by omega)).1 33 (by decide), if_neg c28]
                          rw [(ta.1 p (by omega) (by omega)).1 40 (by decide), if_neg c30]
                          rw [(ta.2 p (by omega) (by omega)).2.1, if_neg c33]
                          rw [if_pos c34]
                          rw [fnW_mv ta hpm (by omega) (by omega)]
                          rw [if_pos c35]
                          rw [(ta.2 p (by omega) (by omega)).1]
                          rw [(ta.1 (tkT u m p) (by omega) (by omega)).1 40 (by decide), if_pos c36]
                          rw [if_neg c37]
                          rw [(ta.2 (tkT u m p) (by omega) (by omega)).1]
                          rw [ih _ _ _ _ _ _ _ _ e1 (by omega) (by omega) sc36.2 (by omega) (fun z => by omega)]
                          try dsimp only
                          rw [if_neg c38]
                          rw [(ta.1 p1 (by omega) (by omega)).1 44 (by decide), if_pos c40]
                          rw [(ta.2 p1 (by omega) (by omega)).1]
                          rw [ih _ _ _ _ _ _ _ _ e2 (by omega) (by omega) sc40.2 (by omega) (fun z => by omega)]
                          try dsimp only
                          rw [if_pos c41]
                          rw [(ta.1 p2 (by omega) (by omega)).1 41 (by decide), if_pos c42]
                          rw [(ta.2 p2 (by omega) (by omega)).1]
                        · rw [if_neg c42] at h
                          cases h
                      · rw [if_neg c41] at h
                        by_cases c43 : isSg u m p2 44 = true
                        · rw [if_pos c43] at h
                          cases e3 : pS u m fd bk g 0 0 (dp + 1) (tkT u m p2) acc with
                          | none => rw [e3] at h; cases h
                          | some r3 =>
                          rw [e3] at h
                          rcases r3 with e | ⟨D3, N3, p3⟩
                          · dsimp only at h
                            cases h
                          dsimp only at h
                          by_cases c44 : isSg u m p3 41 = true
                          · rw [if_pos c44] at h
                            have sc34 := k_lt (u := u) hpm (by rw [c34]; decide)
                            have sc36 := sg_lt (u := u) sc34.2 c36
                            have f1 := pS_lt0 e1 (by omega) sc36.2
                            have sc40 := sg_lt (u := u) f1.2 c40
                            have f2 := pS_lt0 e2 (by omega) sc40.2
                            have sc43 := sg_lt (u := u) f2.2 c43
                            have f3 := pS_lt0 e3 (by omega) sc43.2
                            have sc44 := sg_lt (u := u) f3.2 c44
                            have h := Sum.inr.inj (Option.some.inj h)
                            obtain ⟨hDD, hNP⟩ := Prod.mk.inj h
                            obtain ⟨hNN, hPP⟩ := Prod.mk.inj hNP
                            subst hDD hNN hPP
                            rw [(ta.1 p (by omega) (by omega)).1 45 (by decide), (ta.1 p (by omega) (by omega)).1 33 (by decide), if_neg c28]
                            rw [(ta.1 p (by omega) (by omega)).1 40 (by decide), if_neg c30]
                            rw [(ta.2 p (by omega) (by omega)).2.1, if_neg c33]
                            rw [if_pos c34]
                            rw [fnW_mv ta hpm (by omega) (by omega)]
                            rw [if_pos c35]
                            rw [(ta.2 p (by omega) (by omega)).1]
                            rw [(ta.1 (tkT u m p) (by omega) (by omega)).1 40 (by decide), if_pos c36]
                            rw [if_neg c37]
                            rw [(ta.2 (tkT u m p) (by omega) (by omega)).1]
                            rw [ih _ _ _ _ _ _ _ _ e1 (by omega) (by omega) sc36.2 (by omega) (fun z => by omega)]
                            try dsimp only
                            rw [if_neg c38]
                            rw [(ta.1 p1 (by omega) (by omega)).1 44 (by decide), if_pos c40]
                            rw [(ta.2 p1 (by omega) (by omega)).1]
                            rw [ih _ _ _ _ _ _ _ _ e2 (by omega) (by omega) sc40.2 (by omega) (fun z => by omega)]
                            try dsimp only
                            rw [if_neg c41]
                            rw [(ta.1 p2 (by omega) (by omega)).1 44 (by decide), if_pos c43]
                            rw [(ta.2 p2 (by omega) (by omega)).1]
                            rw [ih _ _ _ _ _ _ _ _ e3 (by omega) (by omega) sc43.2 (by omega) (fun z => by omega)]
                            try dsimp only
                            rw [(ta.1 p3 (by omega) (by omega)).1 41 (by decide), if_pos c44]
                            rw [(ta.2 p3 (by omega) (by omega)).1]
                          · rw [if_neg c44] at h
                            cases h
                        · rw [if_neg c43] at h
                          cases h
                    · rw [if_neg c40] at h
                      cases h
              · rw [if_neg c36] at h
                cases h
            · rw [if_neg c35] at h
              by_cases c45 : fd p < 0
              · rw [if_pos c45] at h
                cases h
              · rw [if_neg c45] at h
                by_cases c46 : bk (fd p).toNat = true
                · rw [if_pos c46] at h
                  cases h
                · rw [if_neg c46] at h
                  have sc34 := k_lt (u := u) hpm (by rw [c34]; decide)
                  have h := Sum.inr.inj (Option.some.inj h)
                  obtain ⟨hDD, hNP⟩ := Prod.mk.inj h
                  obtain ⟨hNN, hPP⟩ := Prod.mk.inj hNP
                  subst hDD hNN hPP
                  rw [(ta.1 p (by omega) (by omega)).1 45 (by decide), (ta.1 p (by omega) (by omega)).1 33 (by decide), if_neg c28]
                  rw [(ta.1 p (by omega) (by omega)).1 40 (by decide), if_neg c30]
                  rw [(ta.2 p (by omega) (by omega)).2.1, if_neg c33]
                  rw [if_pos c34]
                  rw [fnW_mv ta hpm (by omega) (by omega)]
                  rw [if_neg c35]
                  rw [(ta.2 p (by omega) (by omega)).2.2.2.2 c34 (by omega), if_neg c45]
                  rw [if_neg (by rw [hb]; decide)]
                  rw [(ta.2 p (by omega) (by omega)).1]
          · rw [if_neg c34] at h
            cases h
end MV
