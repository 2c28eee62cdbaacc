/-! L3: reading, without fuel: rules -/
section RR
variable (u : Nat → Int) (m : Nat) (fd : Nat → Int) (bk : Nat → Bool)
/-- reading comes to r -/
def RdR (md : Nat) (lst : Int) (dp p : Nat) (acc : Dn × (Nat → Bool)) (r : PR) : Prop := ∃ g, pS u m fd bk g md lst dp p acc = some r
end RR
section RRU
variable {u : Nat → Int} {m : Nat} {fd : Nat → Int} {bk : Nat → Bool} {dp p : Nat} {acc : Dn × (Nat → Bool)} {lst : Int}
theorem RdR.uni {md : Nat} {r r' : PR} (a : RdR u m fd bk md lst dp p acc r) (b : RdR u m fd bk md lst dp p acc r') : r = r' := by
  obtain ⟨g, a⟩ := a
  obtain ⟨g', b⟩ := b
  exact pS_same a b
theorem RdR.tot0 (hp : p ≤ m) : ∃ r, RdR u m fd bk 0 0 dp p acc r := by
  obtain ⟨r, e, _⟩ := (pS_ok (u := u) (m := m) (fd := fd) (bk := bk) (4 * m + 4)).1 dp p acc hp (by omega)
  exact ⟨r, _, e⟩
theorem RdR.tot1 (hp : p ≤ m) (hl : 0 ≤ lst) : ∃ r, RdR u m fd bk 1 lst dp p acc r := by
  obtain ⟨r, e, _⟩ := (pS_ok (u := u) (m := m) (fd := fd) (bk := bk) (4 * m + 4)).2.1 lst dp p acc hl hp (by omega)
  exact ⟨r, _, e⟩
theorem RdR.tot3 (hp : p ≤ m) : ∃ r, RdR u m fd bk 3 0 dp p acc r := by
  obtain ⟨r, e, _⟩ := (pS_ok (u := u) (m := m) (fd := fd) (bk := bk) (4 * m + 4)).2.2.2 dp p acc hp (by omega)
  exact ⟨r, _, e⟩
theorem RdR.lt0 {D : Dn} {N : Nat → Bool} {p' : Nat} (a : RdR u m fd bk 0 0 dp p acc (.inr (D, N, p'))) (hp : p ≤ m) : p < p' ∧ p' ≤ m := by
  obtain ⟨g, a⟩ := a
  exact pS_lt0 a rfl hp
theorem RdR.lt1 {D : Dn} {N : Nat → Bool} {p' : Nat} (a : RdR u m fd bk 1 lst dp p acc (.inr (D, N, p'))) (hl : 0 ≤ lst) (hp : p ≤ m) : p < p' ∧ p' ≤ m := by
  obtain ⟨g, a⟩ := a
  exact pS_lt1 a hl hp
theorem RdR.lt3 {D : Dn} {N : Nat → Bool} {p' : Nat} (a : RdR u m fd bk 3 0 dp p acc (.inr (D, N, p'))) (hp : p ≤ m) : p < p' ∧ p' ≤ m := by
  obtain ⟨g, a⟩ := a
  exact pS_lt3 a rfl hp
/-- what went ahead matters nowhere but behind an operand -/
theorem pS_acc (a b : Dn × (Nat → Bool)) : ∀ g : Nat, (∀ dp p, pS u m fd bk g 0 0 dp p a = pS u m fd bk g 0 0 dp p b) ∧ (∀ lst dp p, pS u m fd bk g 1 lst dp p a = pS u m fd bk g 1 lst dp p b) ∧ (∀ dp p, pS u m fd bk g 3 0 dp p a = pS u m fd bk g 3 0 dp p b)
  | 0 => ⟨fun _ _ => rfl, fun _ _ _ => rfl, fun _ _ => rfl⟩
  | g + 1 => by
    obtain ⟨iA, iB, iD⟩ := pS_acc a b g
    refine ⟨fun dp p => ?_, fun lst dp p => ?_, fun dp p => ?_⟩
    · unfold pS
      rw [if_pos rfl, if_pos rfl]
      simp only [iA, iB]
    · unfold pS
      simp only [if_neg (show ¬ (1 : Nat) = 0 by decide), if_true, iD]
    · unfold pS
      simp only [if_neg (show ¬ (3 : Nat) = 0 by decide), if_neg (show ¬ (3 : Nat) = 1 by decide), if_neg (show ¬ (3 : Nat) = 2 by decide), iA, iD]
theorem RdR.acc0 {b : Dn × (Nat → Bool)} {r : PR} (h : RdR u m fd bk 0 0 dp p acc r) : RdR u m fd bk 0 0 dp p b r := by
  obtain ⟨g, h⟩ := h
  exact ⟨g, by rw [← (pS_acc acc b g).1 dp p]; exact h⟩
theorem RdR.acc1 {b : Dn × (Nat → Bool)} {r : PR} (h : RdR u m fd bk 1 lst dp p acc r) : RdR u m fd bk 1 lst dp p b r := by
  obtain ⟨g, h⟩ := h
  exact ⟨g, by rw [← (pS_acc acc b g).2.1 lst dp p]; exact h⟩
theorem RdR.acc3 {b : Dn × (Nat → Bool)} {r : PR} (h : RdR u m fd bk 3 0 dp p acc r) : RdR u m fd bk 3 0 dp p b r := by
  obtain ⟨g, h⟩ := h
  exact ⟨g, by rw [← (pS_acc acc b g).2.2 dp p]; exact h⟩
/-- fuel for two, for three -/
theorem up2 {g g' : Nat} {md md' : Nat} {l l' : Int} {d d' q q' : Nat} {a a' : Dn × (Nat → Bool)} {r r' : PR} (h : pS u m fd bk g md l d q a = some r) (h' : pS u m fd bk g' md' l' d' q' a' = some r') : ∃ G, pS u m fd bk G md l d q a = some r ∧ pS u m fd bk G md' l' d' q' a' = some r' :=
  ⟨g + g', pS_up h g', by rw [Nat.add_comm]; exact pS_up h' g⟩
-- a formula
theorem R0e {e : Nat} (a : RdR u m fd bk 1 0 dp p acc (.inl e)) : RdR u m fd bk 0 0 dp p acc (.inl e) := by
  obtain ⟨g, a⟩ := a
  refine ⟨g + 1, ?_⟩
  unfold pS
  rw [if_pos rfl, a]
theorem R0n {D : Dn} {N : Nat → Bool} {p1 : Nat} (a : RdR u m fd bk 1 0 dp p acc (.inr (D, N, p1))) (h : ¬ isSg u m p1 63 = true) : RdR u m fd bk 0 0 dp p acc (.inr (D, N, p1)) := by
  obtain ⟨g, a⟩ := a
  refine ⟨g + 1, ?_⟩
  unfold pS
  rw [if_pos rfl, a]
  dsimp only
  rw [if_neg h]
theorem R0d {D : Dn} {N : Nat → Bool} {p1 : Nat} (a : RdR u m fd bk 1 0 dp p acc (.inr (D, N, p1))) (h : isSg u m p1 63 = true) (h24 : 24 ≤ dp) : RdR u m fd bk 0 0 dp p acc (.inl (tkF u m (tkT u m p1))) := by
  obtain ⟨g, a⟩ := a
  refine ⟨g + 1, ?_⟩
  unfold pS
  rw [if_pos rfl, a]
  dsimp only
  rw [if_pos h, if_pos h24]
theorem R0y {D : Dn} {N : Nat → Bool} {p1 e : Nat} (a : RdR u m fd bk 1 0 dp p acc (.inr (D, N, p1))) (h : isSg u m p1 63 = true) (h24 : ¬ 24 ≤ dp) (b : RdR u m fd bk 0 0 (dp + 1) (tkT u m p1) acc (.inl e)) : RdR u m fd bk 0 0 dp p acc (.inl e) := by
  obtain ⟨g, a⟩ := a
  obtain ⟨g', b⟩ := b
  obtain ⟨G, a, b⟩ := up2 a b
  refine ⟨G + 1, ?_⟩
  unfold pS
  rw [if_pos rfl, a]
  dsimp only
  rw [if_pos h, if_neg h24, b]
theorem R0c {D Y : Dn} {N N2 : Nat → Bool} {p1 p3 : Nat} (a : RdR u m fd bk 1 0 dp p acc (.inr (D, N, p1))) (h : isSg u m p1 63 = true) (h24 : ¬ 24 ≤ dp) (b : RdR u m fd bk 0 0 (dp + 1) (tkT u m p1) acc (.inr (Y, N2, p3))) (h2 : ¬ isSg u m p3 58 = true) : RdR u m fd bk 0 0 dp p acc (.inl (tkF u m p3)) := by
  obtain ⟨g, a⟩ := a
  obtain ⟨g', b⟩ := b
  obtain ⟨G, a, b⟩ := up2 a b
  refine ⟨G + 1, ?_⟩
  unfold pS
  rw [if_pos rfl, a]
  dsimp only
  rw [if_pos h, if_neg h24, b]
  dsimp only
  rw [if_neg h2]
theorem R0z {D Y : Dn} {N N2 : Nat → Bool} {p1 p3 e : Nat} (a : RdR u m fd bk 1 0 dp p acc (.inr (D, N, p1))) (h : isSg u m p1 63 = true) (h24 : ¬ 24 ≤ dp) (b : RdR u m fd bk 0 0 (dp + 1) (tkT u m p1) acc (.inr (Y, N2, p3))) (h2 : isSg u m p3 58 = true) (c : RdR u m fd bk 0 0 (dp + 1) (tkT u m p3) acc (.inl e)) : RdR u m fd bk 0 0 dp p acc (.inl e) := by
  obtain ⟨g, a⟩ := a
  obtain ⟨g', b⟩ := b
  obtain ⟨g2, c⟩ := c
  have a := pS_up a (g' + g2)
  have b := pS_up b (g + g2)
  have c := pS_up c (g + g')
  rw [show g' + (g + g2) = g + (g' + g2) by omega] at b
  rw [show g2 + (g + g') = g + (g' + g2) by omega] at c
  refine ⟨g + (g' + g2) + 1, ?_⟩
  unfold pS
  rw [if_pos rfl, a]
  dsimp only
  rw [if_pos h, if_neg h24, b]
  dsimp only
  rw [if_pos h2, c]
theorem R0f {D Y Z : Dn} {N N2 N3 : Nat → Bool} {p1 p3 p5 : Nat} (a : RdR u m fd bk 1 0 dp p acc (.inr (D, N, p1))) (h : isSg u m p1 63 = true) (h24 : ¬ 24 ≤ dp) (b : RdR u m fd bk 0 0 (dp + 1) (tkT u m p1) acc (.inr (Y, N2, p3))) (h2 : isSg u m p3 58 = true) (c : RdR u m fd bk 0 0 (dp + 1) (tkT u m p3) acc (.inr (Z, N3, p5))) : RdR u m fd bk 0 0 dp p acc (.inr (fun e => fIf (D e) (Y e) (Z e), orN N (orN N2 N3), p5)) := by
  obtain ⟨g, a⟩ := a
  obtain ⟨g', b⟩ := b
  obtain ⟨g2, c⟩ := c
  have a := pS_up a (g' + g2)
  have b := pS_up b (g + g2)
  have c := pS_up c (g + g')
  rw [show g' + (g + g2) = g + (g' + g2) by omega] at b
  rw [show g2 + (g + g') = g + (g' + g2) by omega] at c
  refine ⟨g + (g' + g2) + 1, ?_⟩
  unfold pS
  rw [if_pos rfl, a]
  dsimp only
  rw [if_pos h, if_neg h24, b]
  dsimp only
  rw [if_pos h2, c]
-- levels
theorem R1e {e : Nat} (a : RdR u m fd bk 3 0 dp p acc (.inl e)) : RdR u m fd bk 1 lst dp p acc (.inl e) := by
  obtain ⟨g, a⟩ := a
  refine ⟨g + 1, ?_⟩
  unfold pS
  rw [if_neg (by decide), if_pos rfl, a]
theorem R1c {D : Dn} {N : Nat → Bool} {p1 : Nat} {r : PR} (a : RdR u m fd bk 3 0 dp p acc (.inr (D, N, p1))) (b : RdR u m fd bk 2 lst dp p1 (D, N) r) : RdR u m fd bk 1 lst dp p acc r := by
  obtain ⟨g, a⟩ := a
  obtain ⟨g', b⟩ := b
  obtain ⟨G, a, b⟩ := up2 a b
  refine ⟨G + 1, ?_⟩
  unfold pS
  rw [if_neg (by decide), if_pos rfl, a]
  exact b
theorem R2n (h : ¬ lst ≤ levF u m p) : RdR u m fd bk 2 lst dp p acc (.inr (acc.1, acc.2, p)) := by
  refine ⟨1, ?_⟩
  unfold pS
  rw [if_neg (by decide), if_neg (by decide), if_pos rfl, if_neg h]
theorem R2e {e : Nat} (h : lst ≤ levF u m p) (a : RdR u m fd bk 1 (levF u m p + 1) dp (tkT u m p) acc (.inl e)) : RdR u m fd bk 2 lst dp p acc (.inl e) := by
  obtain ⟨g, a⟩ := a
  refine ⟨g + 1, ?_⟩
  unfold pS
  rw [if_neg (by decide), if_neg (by decide), if_pos rfl, if_pos h, a]
theorem R2c {D : Dn} {N : Nat → Bool} {p1 : Nat} {r : PR} (h : lst ≤ levF u m p) (a : RdR u m fd bk 1 (levF u m p + 1) dp (tkT u m p) acc (.inr (D, N, p1))) (b : RdR u m fd bk 2 lst dp p1 (fun e => fTwo (tkS u m p) (acc.1 e) (D e), orN acc.2 N) r) : RdR u m fd bk 2 lst dp p acc r := by
  obtain ⟨g, a⟩ := a
  obtain ⟨g', b⟩ := b
  obtain ⟨G, a, b⟩ := up2 a b
  refine ⟨G + 1, ?_⟩
  unfold pS
  rw [if_neg (by decide), if_neg (by decide), if_pos rfl, if_pos h, a]
  exact b
/-- behind an operand, first by the higher signs alone -/
theorem R2_chain : ∀ (g : Nat) (p : Nat) (acc : Dn × (Nat → Bool)) (r1 : PR), pS u m fd bk g 2 (lst + 1) dp p acc = some r1 → (∀ e, r1 = .inl e → RdR u m fd bk 2 lst dp p acc (.inl e)) ∧ ∀ D N p1, r1 = .inr (D, N, p1) → ¬ lst + 1 ≤ levF u m p1 ∧ ∀ r, RdR u m fd bk 2 lst dp p1 (D, N) r → RdR u m fd bk 2 lst dp p acc r
  | 0, p, acc, r1, h => by unfold pS at h; cases h
  | g + 1, p, acc, r1, h => by
    unfold pS at h
    rw [if_neg (by decide), if_neg (by decide), if_pos rfl] at h
    by_cases hl : lst + 1 ≤ levF u m p
    · rw [if_pos hl] at h
      cases e1 : pS u m fd bk g 1 (levF u m p + 1) dp (tkT u m p) acc with
      | none => rw [e1] at h; cases h
      | some r =>
      rw [e1] at h
      rcases r with e | ⟨D, N, p1⟩
      · have h : some (Sum.inl e) = some r1 := h
        have h := Option.some.inj h
        subst h
        refine ⟨fun e' he => ?_, fun D N p1 he => by cases he⟩
        rw [← he]
        exact R2e (by omega) ⟨g, e1⟩
      · obtain ⟨i1, i2⟩ := R2_chain g p1 _ r1 h
        refine ⟨fun e he => R2c (by omega) ⟨g, e1⟩ (i1 e he), fun D' N' p' he => ?_⟩
        obtain ⟨j1, j2⟩ := i2 D' N' p' he
        exact ⟨j1, fun r hr => R2c (by omega) ⟨g, e1⟩ (j2 r hr)⟩
    · rw [if_neg hl] at h
      have h := Option.some.inj h
      subst h
      refine ⟨fun e he => (by cases he), fun D N p1 he => ?_⟩
      have he := Sum.inr.inj he
      have h1 : acc.1 = D := congrArg (fun z => z.1) he
      have h2 : acc.2 = N := congrArg (fun z => z.2.1) he
      have h3 : p = p1 := congrArg (fun z => z.2.2) he
      subst h1 h2 h3
      exact ⟨hl, fun r hr => hr⟩
theorem pS1_inv {g : Nat} {r : PR} (h : pS u m fd bk g 1 lst dp p acc = some r) : (∃ e, r = .inl e ∧ RdR u m fd bk 3 0 dp p acc (.inl e)) ∨ ∃ D N p1 g', RdR u m fd bk 3 0 dp p acc (.inr (D, N, p1)) ∧ pS u m fd bk g' 2 lst dp p1 (D, N) = some r := by
  cases g with
  | zero => unfold pS at h; cases h
  | succ g =>
    unfold pS at h
    rw [if_neg (by decide), if_pos rfl] at h
    cases e1 : pS u m fd bk g 3 0 dp p acc with
    | none => rw [e1] at h; cases h
    | some r3 =>
    rw [e1] at h
    rcases r3 with e | ⟨D, N, p1⟩
    · exact Or.inl ⟨e, (Option.some.inj h).symm, g, e1⟩
    · exact Or.inr ⟨D, N, p1, g, ⟨g, e1⟩, h⟩
/-- a level, by the next one -/
theorem R1u {e : Nat} (a : RdR u m fd bk 1 (lst + 1) dp p acc (.inl e)) : RdR u m fd bk 1 lst dp p acc (.inl e) := by
  obtain ⟨g, a⟩ := a
  rcases pS1_inv a with ⟨e', e1, b⟩ | ⟨D, N, p1, g', b, c⟩
  · rw [e1]; exact R1e b
  · exact R1c b ((R2_chain g' p1 (D, N) _ c).1 e rfl)
theorem R1v {D : Dn} {N : Nat → Bool} {p1 : Nat} (a : RdR u m fd bk 1 (lst + 1) dp p acc (.inr (D, N, p1))) : ¬ lst + 1 ≤ levF u m p1 ∧ ∀ r, RdR u m fd bk 2 lst dp p1 (D, N) r → RdR u m fd bk 1 lst dp p acc r := by
  obtain ⟨g, a⟩ := a
  rcases pS1_inv a with ⟨e', e1, b⟩ | ⟨D', N', p', g', b, c⟩
  · cases e1
  · obtain ⟨k1, k2⟩ := (R2_chain g' p' (D', N') _ c).2 D N p1 rfl
    exact ⟨k1, fun r hr => R1c b (k2 r hr)⟩
theorem R1_6 {r : PR} (a : RdR u m fd bk 3 0 dp p acc r) : RdR u m fd bk 1 6 dp p acc r := by
  rcases r with e | ⟨D, N, p1⟩
  · exact R1e a
  · exact R1c a (R2n (by have := (levF_r u m p1).2; omega))
end RRU
