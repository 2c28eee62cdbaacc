/-! L3: Formulas: what a formula comes to rests only on the VALUES that it names -/
def Dep (D : Dn) (N : Nat → Bool) : Prop := ∀ e e' : Nat → Fq, (∀ w, N w = true → e w = e' w) → D e = D e'
def Okd (o : Option PR) : Prop := ∀ D N p', o = some (.inr (D, N, p')) → Dep D N
theorem Okd.n : Okd none := fun _ _ _ h => by cases h
theorem Okd.l {e : Nat} : Okd (some (.inl e)) := fun _ _ _ h => by cases h
theorem Okd.r {D : Dn} {N : Nat → Bool} {q : Nat} (h : Dep D N) : Okd (some (.inr (D, N, q))) := fun D' N' p' e => by
  have e := Sum.inr.inj (Option.some.inj e)
  have e1 : D = D' := congrArg (fun z => z.1) e
  have e2 : N = N' := congrArg (fun z => z.2.1) e
  rw [← e1, ← e2]; exact h
theorem orl {a b : Nat → Bool} {w : Nat} (h : a w = true) : orN a b w = true := by unfold orN; rw [h]; rfl
theorem orr {a b : Nat → Bool} {w : Nat} (h : b w = true) : orN a b w = true := by unfold orN; rw [h, Bool.or_true]
section DEP
variable {u : Nat → Int} {m : Nat} {fd : Nat → Int} {bk : Nat → Bool}
theorem pS_dep : ∀ g : Nat,
    (∀ dp p acc, Okd (pS u m fd bk g 0 0 dp p acc)) ∧
    (∀ lst dp p acc, Okd (pS u m fd bk g 1 lst dp p acc)) ∧
    (∀ lst dp p acc, Dep acc.1 acc.2 → Okd (pS u m fd bk g 2 lst dp p acc)) ∧
    (∀ dp p acc, Okd (pS u m fd bk g 3 0 dp p acc))
  | 0 => ⟨fun _ _ _ => Okd.n, fun _ _ _ _ => Okd.n, fun _ _ _ _ _ => Okd.n, fun _ _ _ => Okd.n⟩
  | g + 1 => by
    obtain ⟨iA, iB, iC, iD⟩ := pS_dep g
    refine ⟨fun dp p acc => ?_, fun lst dp p acc => ?_, fun lst dp p acc hacc => ?_, fun dp p acc => ?_⟩
    · unfold pS
      rw [if_pos rfl]
      have k1 := iB 0 dp p acc
      cases e1 : pS u m fd bk g 1 0 dp p acc with
      | none => exact Okd.n
      | some r1 =>
      rw [e1] at k1
      rcases r1 with e | ⟨D, N, p1⟩
      · exact Okd.l
      dsimp only
      have yD := k1 D N p1 rfl
      cases hq : isSg u m p1 63 with
      | false => exact Okd.r yD
      | true =>
      rw [if_pos rfl]
      by_cases h24 : 24 ≤ dp
      · rw [if_pos h24]; exact Okd.l
      rw [if_neg h24]
      have k2 := iA (dp + 1) (tkT u m p1) acc
      cases e2 : pS u m fd bk g 0 0 (dp + 1) (tkT u m p1) acc with
      | none => exact Okd.n
      | some r2 =>
      rw [e2] at k2
      rcases r2 with e | ⟨D2, N2, p2⟩
      · exact Okd.l
      dsimp only
      have yD2 := k2 D2 N2 p2 rfl
      cases hq2 : isSg u m p2 58 with
      | false => exact Okd.l
      | true =>
      rw [if_pos rfl]
      have k3 := iA (dp + 1) (tkT u m p2) acc
      cases e3 : pS u m fd bk g 0 0 (dp + 1) (tkT u m p2) acc with
      | none => exact Okd.n
      | some r3 =>
      rw [e3] at k3
      rcases r3 with e | ⟨D3, N3, p3⟩
      · exact Okd.l
      have yD3 := k3 D3 N3 p3 rfl
      exact Okd.r (fun e e' h => by
        show fIf (D e) (D2 e) (D3 e) = fIf (D e') (D2 e') (D3 e')
        rw [yD e e' (fun w z => h w (orl z)), yD2 e e' (fun w z => h w (orr (orl z))), yD3 e e' (fun w z => h w (orr (orr z)))])
    · unfold pS
      rw [if_neg (by decide), if_pos rfl]
      have k1 := iD dp p acc
      cases e1 : pS u m fd bk g 3 0 dp p acc with
      | none => exact Okd.n
      | some r1 =>
      rw [e1] at k1
      rcases r1 with e | ⟨D, N, p1⟩
      · exact Okd.l
      have yD := k1 D N p1 rfl
      exact iC lst dp p1 (D, N) yD
    · unfold pS
      rw [if_neg (by decide), if_neg (by decide), if_pos rfl]
      by_cases hl2 : lst ≤ levF u m p
      · rw [if_pos hl2]
        have k1 := iB (levF u m p + 1) dp (tkT u m p) acc
        cases e1 : pS u m fd bk g 1 (levF u m p + 1) dp (tkT u m p) acc with
        | none => exact Okd.n
        | some r1 =>
        rw [e1] at k1
        rcases r1 with e | ⟨D, N, p1⟩
        · exact Okd.l
        have yD := k1 D N p1 rfl
        refine iC lst dp p1 _ (fun e e' h => ?_)
        show fTwo (tkS u m p) (acc.1 e) (D e) = fTwo (tkS u m p) (acc.1 e') (D e')
        rw [hacc e e' (fun w z => h w (orl z)), yD e e' (fun w z => h w (orr z))]
      · rw [if_neg hl2]
        exact Okd.r hacc
    · unfold pS
      rw [if_neg (by decide), if_neg (by decide), if_neg (by decide)]
      by_cases hs : (isSg u m p 45 || isSg u m p 33) = true
      · rw [if_pos hs]
        by_cases h24 : 24 ≤ dp
        · rw [if_pos h24]; exact Okd.l
        rw [if_neg h24]
        have k1 := iD (dp + 1) (tkT u m p) acc
        cases e1 : pS u m fd bk g 3 0 (dp + 1) (tkT u m p) acc with
        | none => exact Okd.n
        | some r1 =>
        rw [e1] at k1
        rcases r1 with e | ⟨D, N, p1⟩
        · exact Okd.l
        have yD := k1 D N p1 rfl
        exact Okd.r (fun e e' h => by
          show (if isSg u m p 45 = true then fNeg (D e) else fNot (D e)) = (if isSg u m p 45 = true then fNeg (D e') else fNot (D e'))
          rw [yD e e' h])
      rw [if_neg hs]
      by_cases h40 : isSg u m p 40 = true
      · rw [if_pos h40]
        by_cases h24 : 24 ≤ dp
        · rw [if_pos h24]; exact Okd.l
        rw [if_neg h24]
        have k1 := iA (dp + 1) (tkT u m p) acc
        cases e1 : pS u m fd bk g 0 0 (dp + 1) (tkT u m p) acc with
        | none => exact Okd.n
        | some r1 =>
        rw [e1] at k1
        rcases r1 with e | ⟨D, N, p1⟩
        · exact Okd.l
        dsimp only
        have yD := k1 D N p1 rfl
        cases h41 : isSg u m p1 41 with
        | false => exact Okd.l
        | true =>
          exact Okd.r yD
      rw [if_neg h40]
      by_cases k2 : tkK u m p = 2
      · rw [if_pos k2]
        exact Okd.r (fun _ _ _ => rfl)
      rw [if_neg k2]
      by_cases k1 : tkK u m p = 1
      · rw [if_pos k1]
        by_cases hf : 0 ≤ fnW u m p
        · rw [if_pos hf]
          cases h40b : isSg u m (tkT u m p) 40 with
          | false => exact Okd.l
          | true =>
          rw [if_pos rfl]
          by_cases h24 : 24 ≤ dp
          · rw [if_pos h24]; exact Okd.l
          rw [if_neg h24]
          have q1 := iA (dp + 1) (tkT u m (tkT u m p)) acc
          cases e1 : pS u m fd bk g 0 0 (dp + 1) (tkT u m (tkT u m p)) acc with
          | none => exact Okd.n
          | some r1 =>
          rw [e1] at q1
          rcases r1 with e | ⟨D, N, p1⟩
          · exact Okd.l
          dsimp only
          have yD := q1 D N p1 rfl
          by_cases f4 : 4 < fnW u m p
          · rw [if_pos f4]
            cases h41 : isSg u m p1 41 with
            | false => exact Okd.l
            | true =>
              exact Okd.r (fun e e' h => by
                show fAlone _ (D e) = fAlone _ (D e')
                rw [yD e e' h])
          rw [if_neg f4]
          cases h44 : isSg u m p1 44 with
          | false => exact Okd.l
          | true =>
          rw [if_pos rfl]
          have q2 := iA (dp + 1) (tkT u m p1) acc
          cases e2 : pS u m fd bk g 0 0 (dp + 1) (tkT u m p1) acc with
          | none => exact Okd.n
          | some r2 =>
          rw [e2] at q2
          rcases r2 with e | ⟨D2, N2, p2⟩
          · exact Okd.l
          dsimp only
          have yD2 := q2 D2 N2 p2 rfl
          by_cases f5 : fnW u m p < 4
          · rw [if_pos f5]
            cases h41 : isSg u m p2 41 with
            | false => exact Okd.l
            | true =>
              exact Okd.r (fun e e' h => by
                show fPair _ (D e) (D2 e) = fPair _ (D e') (D2 e')
                rw [yD e e' (fun w z => h w (orl z)), yD2 e e' (fun w z => h w (orr z))])
          rw [if_neg f5]
          cases h44b : isSg u m p2 44 with
          | false => exact Okd.l
          | true =>
          rw [if_pos rfl]
          have q3 := iA (dp + 1) (tkT u m p2) acc
          cases e3 : pS u m fd bk g 0 0 (dp + 1) (tkT u m p2) acc with
          | none => exact Okd.n
          | some r3 =>
          rw [e3] at q3
          rcases r3 with e | ⟨D3, N3, p3⟩
          · exact Okd.l
          dsimp only
          have yD3 := q3 D3 N3 p3 rfl
          cases h41 : isSg u m p3 41 with
          | false => exact Okd.l
          | true =>
            exact Okd.r (fun e e' h => by
              show fThree (D e) (D2 e) (D3 e) = fThree (D e') (D2 e') (D3 e')
              rw [yD e e' (fun w z => h w (orl z)), yD2 e e' (fun w z => h w (orr (orl z))), yD3 e e' (fun w z => h w (orr (orr z)))])
        · rw [if_neg hf]
          by_cases f0 : fd p < 0
          · rw [if_pos f0]; exact Okd.l
          rw [if_neg f0]
          by_cases hb : bk (fd p).toNat = true
          · rw [if_pos hb]; exact Okd.l
          · rw [if_neg hb]; exact Okd.r (fun e e' h => h _ (decide_eq_true rfl))
      · rw [if_neg k1]; exact Okd.l
end DEP
theorem rdF_dep {c : Nat → Int} {nv nc : Nat} {tl : Int} {tof : Nat} {b u : Nat → Int} {m p : Nat} {D : Dn} {N : Nat → Bool} {p' : Nat} (hp : p ≤ m) (h : rdF c nv nc tl tof b u m p = .inr (D, N, p')) : Dep D N :=
  (pS_dep (4 * m + 4)).1 0 p accZ D N p' ((rdF_is hp).1.trans (congrArg some h))
