/-! L3: the signs that reading comes to, one behind the other -/
def tkI (u : Nat → Int) (m : Nat) : Nat → Nat
  | 0 => 0
  | k + 1 => tkT u m (tkI u m k)
def TkR (u : Nat → Int) (m p : Nat) : Prop := ∃ k, tkI u m k = p
theorem TkR.z {u : Nat → Int} {m : Nat} : TkR u m 0 := ⟨0, rfl⟩
theorem TkR.s {u : Nat → Int} {m p : Nat} (h : TkR u m p) : TkR u m (tkT u m p) := by
  obtain ⟨k, e⟩ := h
  exact ⟨k + 1, by rw [← e]; rfl⟩
section RCH
variable {u : Nat → Int} {m : Nat}
def Okc (u : Nat → Int) (m : Nat) (o : Option PR) : Prop := ∀ D N p', o = some (.inr (D, N, p')) → TkR u m p'
theorem Okc.n : Okc u m none := fun _ _ _ h => by cases h
theorem Okc.l {e : Nat} : Okc u m (some (.inl e)) := fun _ _ _ h => by cases h
theorem Okc.r {D : Dn} {N : Nat → Bool} {q : Nat} (h : TkR u m q) : Okc u m (some (.inr (D, N, q))) := fun D' N' p' e => by
  have e := Sum.inr.inj (Option.some.inj e)
  have e2 : q = p' := congrArg (fun z => z.2.2) e
  rw [← e2]; exact h
theorem numD_rc {p : Nat} (hp : TkR u m p) : TkR u m (numD u m p).2 := by
  unfold numD
  by_cases w1 : isWd u m (tkT u m p) [109, 109]
  · rw [itP_t w1]; exact hp.s.s
  rw [itP_f w1]
  by_cases w2 : isWd u m (tkT u m p) [99, 109]
  · rw [itP_t w2]; exact hp.s.s
  rw [itP_f w2]
  by_cases w3 : isWd u m (tkT u m p) [105, 110]
  · rw [itP_t w3]; exact hp.s.s
  rw [itP_f w3]; exact hp.s
variable {fd : Nat → Int} {bk : Nat → Bool}
theorem pS_rc : ∀ g : Nat,
    (∀ dp p acc, TkR u m p → Okc u m (pS u m fd bk g 0 0 dp p acc)) ∧
    (∀ lst dp p acc, TkR u m p → Okc u m (pS u m fd bk g 1 lst dp p acc)) ∧
    (∀ lst dp p acc, TkR u m p → Okc u m (pS u m fd bk g 2 lst dp p acc)) ∧
    (∀ dp p acc, TkR u m p → Okc u m (pS u m fd bk g 3 0 dp p acc))
  | 0 => ⟨fun _ _ _ _ => Okc.n, fun _ _ _ _ _ => Okc.n, fun _ _ _ _ _ => Okc.n, fun _ _ _ _ => Okc.n⟩
  | g + 1 => by
    obtain ⟨iA, iB, iC, iD⟩ := pS_rc g
    refine ⟨fun dp p acc hp => ?_, fun lst dp p acc hp => ?_, fun lst dp p acc hp => ?_, fun dp p acc hp => ?_⟩
    · unfold pS
      rw [if_pos rfl]
      have k1 := iB 0 dp p acc hp
      cases e1 : pS u m fd bk g 1 0 dp p acc with
      | none => exact Okc.n
      | some r1 =>
      rw [e1] at k1
      rcases r1 with e | ⟨D, N, p1⟩
      · exact Okc.l
      dsimp only
      have yD := k1 D N p1 rfl
      cases hq : isSg u m p1 63 with
      | false => exact Okc.r yD
      | true =>
      rw [if_pos rfl]
      by_cases h24 : 24 ≤ dp
      · rw [if_pos h24]; exact Okc.l
      rw [if_neg h24]
      have k2 := iA (dp + 1) (tkT u m p1) acc yD.s
      cases e2 : pS u m fd bk g 0 0 (dp + 1) (tkT u m p1) acc with
      | none => exact Okc.n
      | some r2 =>
      rw [e2] at k2
      rcases r2 with e | ⟨D2, N2, p2⟩
      · exact Okc.l
      dsimp only
      have yD2 := k2 D2 N2 p2 rfl
      cases hq2 : isSg u m p2 58 with
      | false => exact Okc.l
      | true =>
      rw [if_pos rfl]
      have k3 := iA (dp + 1) (tkT u m p2) acc yD2.s
      cases e3 : pS u m fd bk g 0 0 (dp + 1) (tkT u m p2) acc with
      | none => exact Okc.n
      | some r3 =>
      rw [e3] at k3
      rcases r3 with e | ⟨D3, N3, p3⟩
      · exact Okc.l
      have yD3 := k3 D3 N3 p3 rfl
      exact Okc.r yD3
    · unfold pS
      rw [if_neg (by decide), if_pos rfl]
      have k1 := iD dp p acc hp
      cases e1 : pS u m fd bk g 3 0 dp p acc with
      | none => exact Okc.n
      | some r1 =>
      rw [e1] at k1
      rcases r1 with e | ⟨D, N, p1⟩
      · exact Okc.l
      have yD := k1 D N p1 rfl
      exact iC lst dp p1 (D, N) yD
    · unfold pS
      rw [if_neg (by decide), if_neg (by decide), if_pos rfl]
      by_cases hl2 : lst ≤ levF u m p
      · rw [if_pos hl2]
        have k1 := iB (levF u m p + 1) dp (tkT u m p) acc hp.s
        cases e1 : pS u m fd bk g 1 (levF u m p + 1) dp (tkT u m p) acc with
        | none => exact Okc.n
        | some r1 =>
        rw [e1] at k1
        rcases r1 with e | ⟨D, N, p1⟩
        · exact Okc.l
        have yD := k1 D N p1 rfl
        exact iC lst dp p1 _ yD
      · rw [if_neg hl2]
        exact Okc.r hp
    · unfold pS
      rw [if_neg (by decide), if_neg (by decide), if_neg (by decide)]
      by_cases hs : (isSg u m p 45 || isSg u m p 33) = true
      · rw [if_pos hs]
        by_cases h24 : 24 ≤ dp
        · rw [if_pos h24]; exact Okc.l
        rw [if_neg h24]
        have k1 := iD (dp + 1) (tkT u m p) acc hp.s
        cases e1 : pS u m fd bk g 3 0 (dp + 1) (tkT u m p) acc with
        | none => exact Okc.n
        | some r1 =>
        rw [e1] at k1
        rcases r1 with e | ⟨D, N, p1⟩
        · exact Okc.l
        have yD := k1 D N p1 rfl
        exact Okc.r yD
      rw [if_neg hs]
      by_cases h40 : isSg u m p 40 = true
      · rw [if_pos h40]
        by_cases h24 : 24 ≤ dp
        · rw [if_pos h24]; exact Okc.l
        rw [if_neg h24]
        have k1 := iA (dp + 1) (tkT u m p) acc hp.s
        cases e1 : pS u m fd bk g 0 0 (dp + 1) (tkT u m p) acc with
        | none => exact Okc.n
        | some r1 =>
        rw [e1] at k1
        rcases r1 with e | ⟨D, N, p1⟩
        · exact Okc.l
        dsimp only
        have yD := k1 D N p1 rfl
        cases h41 : isSg u m p1 41 with
        | false => exact Okc.l
        | true =>
          exact Okc.r yD.s
      rw [if_neg h40]
      by_cases k2 : tkK u m p = 2
      · rw [if_pos k2]
        exact Okc.r (numD_rc hp)
      rw [if_neg k2]
      by_cases k1 : tkK u m p = 1
      · rw [if_pos k1]
        by_cases hf : 0 ≤ fnW u m p
        · rw [if_pos hf]
          cases h40b : isSg u m (tkT u m p) 40 with
          | false => exact Okc.l
          | true =>
          rw [if_pos rfl]
          by_cases h24 : 24 ≤ dp
          · rw [if_pos h24]; exact Okc.l
          rw [if_neg h24]
          have q1 := iA (dp + 1) (tkT u m (tkT u m p)) acc hp.s.s
          cases e1 : pS u m fd bk g 0 0 (dp + 1) (tkT u m (tkT u m p)) acc with
          | none => exact Okc.n
          | some r1 =>
          rw [e1] at q1
          rcases r1 with e | ⟨D, N, p1⟩
          · exact Okc.l
          dsimp only
          have yD := q1 D N p1 rfl
          by_cases f4 : 4 < fnW u m p
          · rw [if_pos f4]
            cases h41 : isSg u m p1 41 with
            | false => exact Okc.l
            | true =>
              exact Okc.r yD.s
          rw [if_neg f4]
          cases h44 : isSg u m p1 44 with
          | false => exact Okc.l
          | true =>
          rw [if_pos rfl]
          have q2 := iA (dp + 1) (tkT u m p1) acc yD.s
          cases e2 : pS u m fd bk g 0 0 (dp + 1) (tkT u m p1) acc with
          | none => exact Okc.n
          | some r2 =>
          rw [e2] at q2
          rcases r2 with e | ⟨D2, N2, p2⟩
          · exact Okc.l
          dsimp only
          have yD2 := q2 D2 N2 p2 rfl
          by_cases f5 : fnW u m p < 4
          · rw [if_pos f5]
            cases h41 : isSg u m p2 41 with
            | false => exact Okc.l
            | true =>
              exact Okc.r yD2.s
          rw [if_neg f5]
          cases h44b : isSg u m p2 44 with
          | false => exact Okc.l
          | true =>
          rw [if_pos rfl]
          have q3 := iA (dp + 1) (tkT u m p2) acc yD2.s
          cases e3 : pS u m fd bk g 0 0 (dp + 1) (tkT u m p2) acc with
          | none => exact Okc.n
          | some r3 =>
          rw [e3] at q3
          rcases r3 with e | ⟨D3, N3, p3⟩
          · exact Okc.l
          dsimp only
          have yD3 := q3 D3 N3 p3 rfl
          cases h41 : isSg u m p3 41 with
          | false => exact Okc.l
          | true =>
            exact Okc.r yD3.s
        · rw [if_neg hf]
          by_cases f0 : fd p < 0
          · rw [if_pos f0]; exact Okc.l
          rw [if_neg f0]
          by_cases hb : bk (fd p).toNat = true
          · rw [if_pos hb]; exact Okc.l
          · rw [if_neg hb]; exact Okc.r hp.s
      · rw [if_neg k1]; exact Okc.l
end RCH
