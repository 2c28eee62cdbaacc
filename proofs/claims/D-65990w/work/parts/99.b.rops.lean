/-! L3: reading, without fuel: an operand -/
section R3
variable {u : Nat → Int} {m : Nat} {fd : Nat → Int} {bk : Nat → Bool} {dp p : Nat} {acc : Dn × (Nat → Bool)}
theorem R3_0 (h1 : (isSg u m p 45 || isSg u m p 33) = true) (h2 : 24 ≤ dp) : RdR u m fd bk 3 0 dp p acc (.inl (tkF u m (tkT u m p))) := by
  refine ⟨0 + 1, ?_⟩
  unfold pS
  rw [if_neg (by decide), if_neg (by decide), if_neg (by decide)]
  rw [if_pos h1]
  rw [if_pos h2]
theorem R3_1 {e : Nat} (h1 : (isSg u m p 45 || isSg u m p 33) = true) (h2 : ¬ (24 ≤ dp)) (a1 : RdR u m fd bk 3 0 (dp + 1) (tkT u m p) acc (.inl e)) : RdR u m fd bk 3 0 dp p acc (.inl e) := by
  obtain ⟨g1, a1⟩ := a1
  refine ⟨g1 + 1, ?_⟩
  unfold pS
  rw [if_neg (by decide), if_neg (by decide), if_neg (by decide)]
  rw [if_pos h1]
  rw [if_neg h2]
  rw [a1]
theorem R3_2 {D : Dn} {N : Nat → Bool} {p1 : Nat} (h1 : (isSg u m p 45 || isSg u m p 33) = true) (h2 : ¬ (24 ≤ dp)) (a1 : RdR u m fd bk 3 0 (dp + 1) (tkT u m p) acc (.inr (D, N, p1))) : RdR u m fd bk 3 0 dp p acc (.inr (fun e => if isSg u m p 45 then fNeg (D e) else fNot (D e), N, p1)) := by
  obtain ⟨g1, a1⟩ := a1
  refine ⟨g1 + 1, ?_⟩
  unfold pS
  rw [if_neg (by decide), if_neg (by decide), if_neg (by decide)]
  rw [if_pos h1]
  rw [if_neg h2]
  rw [a1]
theorem R3_3 (h1 : ¬ ((isSg u m p 45 || isSg u m p 33) = true)) (h2 : isSg u m p 40 = true) (h3 : 24 ≤ dp) : RdR u m fd bk 3 0 dp p acc (.inl (tkF u m (tkT u m p))) := by
  refine ⟨0 + 1, ?_⟩
  unfold pS
  rw [if_neg (by decide), if_neg (by decide), if_neg (by decide)]
  rw [if_neg h1]
  rw [if_pos h2]
  rw [if_pos h3]
theorem R3_4 {e : Nat} (h1 : ¬ ((isSg u m p 45 || isSg u m p 33) = true)) (h2 : isSg u m p 40 = true) (h3 : ¬ (24 ≤ dp)) (a1 : RdR u m fd bk 0 0 (dp + 1) (tkT u m p) acc (.inl e)) : RdR u m fd bk 3 0 dp p acc (.inl e) := by
  obtain ⟨g1, a1⟩ := a1
  refine ⟨g1 + 1, ?_⟩
  unfold pS
  rw [if_neg (by decide), if_neg (by decide), if_neg (by decide)]
  rw [if_neg h1]
  rw [if_pos h2]
  rw [if_neg h3]
  rw [a1]
theorem R3_5 {D : Dn} {N : Nat → Bool} {p1 : Nat} (h1 : ¬ ((isSg u m p 45 || isSg u m p 33) = true)) (h2 : isSg u m p 40 = true) (h3 : ¬ (24 ≤ dp)) (a1 : RdR u m fd bk 0 0 (dp + 1) (tkT u m p) acc (.inr (D, N, p1))) (h4 : isSg u m p1 41 = true) : RdR u m fd bk 3 0 dp p acc (.inr (D, N, (tkT u m p1))) := by
  obtain ⟨g1, a1⟩ := a1
  refine ⟨g1 + 1, ?_⟩
  unfold pS
  rw [if_neg (by decide), if_neg (by decide), if_neg (by decide)]
  rw [if_neg h1]
  rw [if_pos h2]
  rw [if_neg h3]
  rw [a1]
  dsimp only
  rw [if_pos h4]
theorem R3_6 {D : Dn} {N : Nat → Bool} {p1 : Nat} (h1 : ¬ ((isSg u m p 45 || isSg u m p 33) = true)) (h2 : isSg u m p 40 = true) (h3 : ¬ (24 ≤ dp)) (a1 : RdR u m fd bk 0 0 (dp + 1) (tkT u m p) acc (.inr (D, N, p1))) (h4 : ¬ (isSg u m p1 41 = true)) : RdR u m fd bk 3 0 dp p acc (.inl (tkF u m p1)) := by
  obtain ⟨g1, a1⟩ := a1
  refine ⟨g1 + 1, ?_⟩
  unfold pS
  rw [if_neg (by decide), if_neg (by decide), if_neg (by decide)]
  rw [if_neg h1]
  rw [if_pos h2]
  rw [if_neg h3]
  rw [a1]
  dsimp only
  rw [if_neg h4]
theorem R3_7 (h1 : ¬ ((isSg u m p 45 || isSg u m p 33) = true)) (h2 : ¬ (isSg u m p 40 = true)) (h3 : tkK u m p = 2) : RdR u m fd bk 3 0 dp p acc (.inr (fun _ => (numD u m p).1, fun _ => false, (numD u m p).2)) := by
  refine ⟨0 + 1, ?_⟩
  unfold pS
  rw [if_neg (by decide), if_neg (by decide), if_neg (by decide)]
  rw [if_neg h1]
  rw [if_neg h2]
  rw [if_pos h3]
theorem R3_8 (h1 : ¬ ((isSg u m p 45 || isSg u m p 33) = true)) (h2 : ¬ (isSg u m p 40 = true)) (h3 : ¬ (tkK u m p = 2)) (h4 : tkK u m p = 1) (h5 : 0 ≤ fnW u m p) (h6 : isSg u m (tkT u m p) 40 = true) (h7 : 24 ≤ dp) : RdR u m fd bk 3 0 dp p acc (.inl (tkF u m (tkT u m (tkT u m p)))) := by
  refine ⟨0 + 1, ?_⟩
  unfold pS
  rw [if_neg (by decide), if_neg (by decide), if_neg (by decide)]
  rw [if_neg h1]
  rw [if_neg h2]
  rw [if_neg h3]
  rw [if_pos h4]
  rw [if_pos h5]
  rw [if_pos h6]
  rw [if_pos h7]
theorem R3_9 {e : Nat} (h1 : ¬ ((isSg u m p 45 || isSg u m p 33) = true)) (h2 : ¬ (isSg u m p 40 = true)) (h3 : ¬ (tkK u m p = 2)) (h4 : tkK u m p = 1) (h5 : 0 ≤ fnW u m p) (h6 : isSg u m (tkT u m p) 40 = true) (h7 : ¬ (24 ≤ dp)) (a1 : RdR u m fd bk 0 0 (dp + 1) (tkT u m (tkT u m p)) acc (.inl e)) : RdR u m fd bk 3 0 dp p acc (.inl e) := by
  obtain ⟨g1, a1⟩ := a1
  refine ⟨g1 + 1, ?_⟩
  unfold pS
  rw [if_neg (by decide), if_neg (by decide), if_neg (by decide)]
  rw [if_neg h1]
  rw [if_neg h2]
  rw [if_neg h3]
  rw [if_pos h4]
  rw [if_pos h5]
  rw [if_pos h6]
  rw [if_neg h7]
  rw [a1]
theorem R3_10 {D : Dn} {N : Nat → Bool} {p1 : Nat} (h1 : ¬ ((isSg u m p 45 || isSg u m p 33) = true)) (h2 : ¬ (isSg u m p 40 = true)) (h3 : ¬ (tkK u m p = 2)) (h4 : tkK u m p = 1) (h5 : 0 ≤ fnW u m p) (h6 : isSg u m (tkT u m p) 40 = true) (h7 : ¬ (24 ≤ dp)) (a1 : RdR u m fd bk 0 0 (dp + 1) (tkT u m (tkT u m p)) acc (.inr (D, N, p1))) (h8 : 4 < fnW u m p) (h9 : isSg u m p1 41 = true) : RdR u m fd bk 3 0 dp p acc (.inr (fun e => fAlone (fnW u m p).toNat (D e), N, (tkT u m p1))) := by
  obtain ⟨g1, a1⟩ := a1
  refine ⟨g1 + 1, ?_⟩
  unfold pS
  rw [if_neg (by decide), if_neg (by decide), if_neg (by decide)]
  rw [if_neg h1]
  rw [if_neg h2]
  rw [if_neg h3]
  rw [if_pos h4]
  rw [if_pos h5]
  rw [if_pos h6]
  rw [if_neg h7]
  rw [a1]
  dsimp only
  rw [if_pos h8]
  rw [if_pos h9]
theorem R3_11 {D : Dn} {N : Nat → Bool} {p1 : Nat} (h1 : ¬ ((isSg u m p 45 || isSg u m p 33) = true)) (h2 : ¬ (isSg u m p 40 = true)) (h3 : ¬ (tkK u m p = 2)) (h4 : tkK u m p = 1) (h5 : 0 ≤ fnW u m p) (h6 : isSg u m (tkT u m p) 40 = true) (h7 : ¬ (24 ≤ dp)) (a1 : RdR u m fd bk 0 0 (dp + 1) (tkT u m (tkT u m p)) acc (.inr (D, N, p1))) (h8 : 4 < fnW u m p) (h9 : ¬ (isSg u m p1 41 = true)) : RdR u m fd bk 3 0 dp p acc (.inl (tkF u m p1)) := by
  obtain ⟨g1, a1⟩ := a1
  refine ⟨g1 + 1, ?_⟩
  unfold pS
  rw [if_neg (by decide), if_neg (by decide), if_neg (by decide)]
  rw [if_neg h1]
  rw [if_neg h2]
  rw [if_neg h3]
  rw [if_pos h4]
  rw [if_pos h5]
  rw [if_pos h6]
  rw [if_neg h7]
  rw [a1]
  dsimp only
  rw [if_pos h8]
  rw [if_neg h9]
theorem R3_12 {D : Dn} {N : Nat → Bool} {e : Nat} {p1 : Nat} (h1 : ¬ ((isSg u m p 45 || isSg u m p 33) = true)) (h2 : ¬ (isSg u m p 40 = true)) (h3 : ¬ (tkK u m p = 2)) (h4 : tkK u m p = 1) (h5 : 0 ≤ fnW u m p) (h6 : isSg u m (tkT u m p) 40 = true) (h7 : ¬ (24 ≤ dp)) (a1 : RdR u m fd bk 0 0 (dp + 1) (tkT u m (tkT u m p)) acc (.inr (D, N, p1))) (h8 : ¬ (4 < fnW u m p)) (h9 : isSg u m p1 44 = true) (a2 : RdR u m fd bk 0 0 (dp + 1) (tkT u m p1) acc (.inl e)) : RdR u m fd bk 3 0 dp p acc (.inl e) := by
  obtain ⟨g1, a1⟩ := a1
  obtain ⟨g2, a2⟩ := a2
  have a1 := pS_up a1 (g2)
  rw [show g1 + (g2) = g1 + g2 by omega] at a1
  have a2 := pS_up a2 (g1)
  rw [show g2 + (g1) = g1 + g2 by omega] at a2
  refine ⟨(g1 + g2) + 1, ?_⟩
  unfold pS
  rw [if_neg (by decide), if_neg (by decide), if_neg (by decide)]
  rw [if_neg h1]
  rw [if_neg h2]
  rw [if_neg h3]
  rw [if_pos h4]
  rw [if_pos h5]
  rw [if_pos h6]
  rw [if_neg h7]
  rw [a1]
  dsimp only
  rw [if_neg h8]
  rw [if_pos h9]
  rw [a2]
theorem R3_13 {D : Dn} {D2 : Dn} {N : Nat → Bool} {N2 : Nat → Bool} {p1 : Nat} {p2 : Nat} (h1 : ¬ ((isSg u m p 45 || isSg u m p 33) = true)) (h2 : ¬ (isSg u m p 40 = true)) (h3 : ¬ (tkK u m p = 2)) (h4 : tkK u m p = 1) (h5 : 0 ≤ fnW u m p) (h6 : isSg u m (tkT u m p) 40 = true) (h7 : ¬ (24 ≤ dp)) (a1 : RdR u m fd bk 0 0 (dp + 1) (tkT u m (tkT u m p)) acc (.inr (D, N, p1))) (h8 : ¬ (4 < fnW u m p)) (h9 : isSg u m p1 44 = true) (a2 : RdR u m fd bk 0 0 (dp + 1) (tkT u m p1) acc (.inr (D2, N2, p2))) (h10 : fnW u m p < 4) (h11 : isSg u m p2 41 = true) : RdR u m fd bk 3 0 dp p acc (.inr (fun e => fPair (fnW u m p).toNat (D e) (D2 e), orN N N2, (tkT u m p2))) := by
  obtain ⟨g1, a1⟩ := a1
  obtain ⟨g2, a2⟩ := a2
  have a1 := pS_up a1 (g2)
  rw [show g1 + (g2) = g1 + g2 by omega] at a1
  have a2 := pS_up a2 (g1)
  rw [show g2 + (g1) = g1 + g2 by omega] at a2
  refine ⟨(g1 + g2) + 1, ?_⟩
  unfold pS
  rw [if_neg (by decide), if_neg (by decide), if_neg (by decide)]
  rw [if_neg h1]
  rw [if_neg h2]
  rw [if_neg h3]
  rw [if_pos h4]
  rw [if_pos h5]
  rw [if_pos h6]
  rw [if_neg h7]
  rw [a1]
  dsimp only
  rw [if_neg h8]
  rw [if_pos h9]
  rw [a2]
  dsimp only
  rw [if_pos h10]
  rw [if_pos h11]
theorem R3_14 {D : Dn} {D2 : Dn} {N : Nat → Bool} {N2 : Nat → Bool} {p1 : Nat} {p2 : Nat} (h1 : ¬ ((isSg u m p 45 || isSg u m p 33) = true)) (h2 : ¬ (isSg u m p 40 = true)) (h3 : ¬ (tkK u m p = 2)) (h4 : tkK u m p = 1) (h5 : 0 ≤ fnW u m p) (h6 : isSg u m (tkT u m p) 40 = true) (h7 : ¬ (24 ≤ dp)) (a1 : RdR u m fd bk 0 0 (dp + 1) (tkT u m (tkT u m p)) acc (.inr (D, N, p1))) (h8 : ¬ (4 < fnW u m p)) (h9 : isSg u m p1 44 = true) (a2 : RdR u m fd bk 0 0 (dp + 1) (tkT u m p1) acc (.inr (D2, N2, p2))) (h10 : fnW u m p < 4) (h11 : ¬ (isSg u m p2 41 = true)) : RdR u m fd bk 3 0 dp p acc (.inl (tkF u m p2)) := by
  obtain ⟨g1, a1⟩ := a1
  obtain ⟨g2, a2⟩ := a2
  have a1 := pS_up a1 (g2)
  rw [show g1 + (g2) = g1 + g2 by omega] at a1
  have a2 := pS_up a2 (g1)
  rw [show g2 + (g1) = g1 + g2 by omega] at a2
  refine ⟨(g1 + g2) + 1, ?_⟩
  unfold pS
  rw [if_neg (by decide), if_neg (by decide), if_neg (by decide)]
  rw [if_neg h1]
  rw [if_neg h2]
  rw [if_neg h3]
  rw [if_pos h4]
  rw [if_pos h5]
  rw [if_pos h6]
  rw [if_neg h7]
  rw [a1]
  dsimp only
  rw [if_neg h8]
  rw [if_pos h9]
  rw [a2]
  dsimp only
  rw [if_pos h10]
  rw [if_neg h11]
theorem R3_15 {D : Dn} {D2 : Dn} {N : Nat → Bool} {N2 : Nat → Bool} {e : Nat} {p1 : Nat} {p2 : Nat} (h1 : ¬ ((isSg u m p 45 || isSg u m p 33) = true)) (h2 : ¬ (isSg u m p 40 = true)) (h3 : ¬ (tkK u m p = 2)) (h4 : tkK u m p = 1) (h5 : 0 ≤ fnW u m p) (h6 : isSg u m (tkT u m p) 40 = true) (h7 : ¬ (24 ≤ dp)) (a1 : RdR u m fd bk 0 0 (dp + 1) (tkT u m (tkT u m p)) acc (.inr (D, N, p1))) (h8 : ¬ (4 < fnW u m p)) (h9 : isSg u m p1 44 = true) (a2 : RdR u m fd bk 0 0 (dp + 1) (tkT u m p1) acc (.inr (D2, N2, p2))) (h10 : ¬ (fnW u m p < 4)) (h11 : isSg u m p2 44 = true) (a3 : RdR u m fd bk 0 0 (dp + 1) (tkT u m p2) acc (.inl e)) : RdR u m fd bk 3 0 dp p acc (.inl e) := by
  obtain ⟨g1, a1⟩ := a1
  obtain ⟨g2, a2⟩ := a2
  obtain ⟨g3, a3⟩ := a3
  have a1 := pS_up a1 (g2 + g3)
  rw [show g1 + (g2 + g3) = g1 + g2 + g3 by omega] at a1
  have a2 := pS_up a2 (g1 + g3)
  rw [show g2 + (g1 + g3) = g1 + g2 + g3 by omega] at a2
  have a3 := pS_up a3 (g1 + g2)
  rw [show g3 + (g1 + g2) = g1 + g2 + g3 by omega] at a3
  refine ⟨(g1 + g2 + g3) + 1, ?_⟩
  unfold pS
  rw [if_neg (by decide), if_neg (by decide), if_neg (by decide)]
  rw [if_neg h1]
  rw [if_neg h2]
  rw [if_neg h3]
  rw [if_pos h4]
  rw [if_pos h5]
  rw [if_pos h6]
  rw [if_neg h7]
  rw [a1]
  dsimp only
  rw [if_neg h8]
  rw [if_pos h9]
  rw [a2]
  dsimp only
  rw [if_neg h10]
  rw [if_pos h11]
  rw [a3]
theorem R3_16 {D : Dn} {D2 : Dn} {D3 : Dn} {N : Nat → Bool} {N2 : Nat → Bool} {N3 : Nat → Bool} {p1 : Nat} {p2 : Nat} {p3 : Nat} (h1 : ¬ ((isSg u m p 45 || isSg u m p 33) = true)) (h2 : ¬ (isSg u m p 40 = true)) (h3 : ¬ (tkK u m p = 2)) (h4 : tkK u m p = 1) (h5 : 0 ≤ fnW u m p) (h6 : isSg u m (tkT u m p) 40 = true) (h7 : ¬ (24 ≤ dp)) (a1 : RdR u m fd bk 0 0 (dp + 1) (tkT u m (tkT u m p)) acc (.inr (D, N, p1))) (h8 : ¬ (4 < fnW u m p)) (h9 : isSg u m p1 44 = true) (a2 : RdR u m fd bk 0 0 (dp + 1) (tkT u m p1) acc (.inr (D2, N2, p2))) (h10 : ¬ (fnW u m p < 4)) (h11 : isSg u m p2 44 = true) (a3 : RdR u m fd bk 0 0 (dp + 1) (tkT u m p2) acc (.inr (D3, N3, p3))) (h12 : isSg u m p3 41 = true) : RdR u m fd bk 3 0 dp p acc (.inr (fun e => fThree (D e) (D2 e) (D3 e), orN N (orN N2 N3), (tkT u m p3))) := by
  obtain ⟨g1, a1⟩ := a1
  obtain ⟨g2, a2⟩ := a2
  obtain ⟨g3, a3⟩ := a3
  have a1 := pS_up a1 (g2 + g3)
  rw [show g1 + (g2 + g3) = g1 + g2 + g3 by omega] at a1
  have a2 := pS_up a2 (g1 + g3)
  rw [show g2 + (g1 + g3) = g1 + g2 + g3 by omega] at a2
  have a3 := pS_up a3 (g1 + g2)
  rw [show g3 + (g1 + g2) = g1 + g2 + g3 by omega] at a3
  refine ⟨(g1 + g2 + g3) + 1, ?_⟩
  unfold pS
  rw [if_neg (by decide), if_neg (by decide), if_neg (by decide)]
  rw [if_neg h1]
  rw [if_neg h2]
  rw [if_neg h3]
  rw [if_pos h4]
  rw [if_pos h5]
  rw [if_pos h6]
  rw [if_neg h7]
  rw [a1]
  dsimp only
  rw [if_neg h8]
  rw [if_pos h9]
  rw [a2]
  dsimp only
  rw [if_neg h10]
  rw [if_pos h11]
  rw [a3]
  dsimp only
  rw [if_pos h12]
theorem R3_17 {D : Dn} {D2 : Dn} {D3 : Dn} {N : Nat → Bool} {N2 : Nat → Bool} {N3 : Nat → Bool} {p1 : Nat} {p2 : Nat} {p3 : Nat} (h1 : ¬ ((isSg u m p 45 || isSg u m p 33) = true)) (h2 : ¬ (isSg u m p 40 = true)) (h3 : ¬ (tkK u m p = 2)) (h4 : tkK u m p = 1) (h5 : 0 ≤ fnW u m p) (h6 : isSg u m (tkT u m p) 40 = true) (h7 : ¬ (24 ≤ dp)) (a1 : RdR u m fd bk 0 0 (dp + 1) (tkT u m (tkT u m p)) acc (.inr (D, N, p1))) (h8 : ¬ (4 < fnW u m p)) (h9 : isSg u m p1 44 = true) (a2 : RdR u m fd bk 0 0 (dp + 1) (tkT u m p1) acc (.inr (D2, N2, p2))) (h10 : ¬ (fnW u m p < 4)) (h11 : isSg u m p2 44 = true) (a3 : RdR u m fd bk 0 0 (dp + 1) (tkT u m p2) acc (.inr (D3, N3, p3))) (h12 : ¬ (isSg u m p3 41 = true)) : RdR u m fd bk 3 0 dp p acc (.inl (tkF u m p3)) := by
  obtain ⟨g1, a1⟩ := a1
  obtain ⟨g2, a2⟩ := a2
  obtain ⟨g3, a3⟩ := a3
  have a1 := pS_up a1 (g2 + g3)
  rw [show g1 + (g2 + g3) = g1 + g2 + g3 by omega] at a1
  have a2 := pS_up a2 (g1 + g3)
  rw [show g2 + (g1 + g3) = g1 + g2 + g3 by omega] at a2
  have a3 := pS_up a3 (g1 + g2)
  rw [show g3 + (g1 + g2) = g1 + g2 + g3 by omega] at a3
  refine ⟨(g1 + g2 + g3) + 1, ?_⟩
  unfold pS
  rw [if_neg (by decide), if_neg (by decide), if_neg (by decide)]
  rw [if_neg h1]
  rw [if_neg h2]
  rw [if_neg h3]
  rw [if_pos h4]
  rw [if_pos h5]
  rw [if_pos h6]
  rw [if_neg h7]
  rw [a1]
  dsimp only
  rw [if_neg h8]
  rw [if_pos h9]
  rw [a2]
  dsimp only
  rw [if_neg h10]
  rw [if_pos h11]
  rw [a3]
  dsimp only
  rw [if_neg h12]
theorem R3_18 {D : Dn} {D2 : Dn} {N : Nat → Bool} {N2 : Nat → Bool} {p1 : Nat} {p2 : Nat} (h1 : ¬ ((isSg u m p 45 || isSg u m p 33) = true)) (h2 : ¬ (isSg u m p 40 = true)) (h3 : ¬ (tkK u m p = 2)) (h4 : tkK u m p = 1) (h5 : 0 ≤ fnW u m p) (h6 : isSg u m (tkT u m p) 40 = true) (h7 : ¬ (24 ≤ dp)) (a1 : RdR u m fd bk 0 0 (dp + 1) (tkT u m (tkT u m p)) acc (.inr (D, N, p1))) (h8 : ¬ (4 < fnW u m p)) (h9 : isSg u m p1 44 = true) (a2 : RdR u m fd bk 0 0 (dp + 1) (tkT u m p1) acc (.inr (D2, N2, p2))) (h10 : ¬ (fnW u m p < 4)) (h11 : ¬ (isSg u m p2 44 = true)) : RdR u m fd bk 3 0 dp p acc (.inl (tkF u m p2)) := by
  obtain ⟨g1, a1⟩ := a1
  obtain ⟨g2, a2⟩ := a2
  have a1 := pS_up a1 (g2)
  rw [show g1 + (g2) = g1 + g2 by omega] at a1
  have a2 := pS_up a2 (g1)
  rw [show g2 + (g1) = g1 + g2 by omega] at a2
  refine ⟨(g1 + g2) + 1, ?_⟩
  unfold pS
  rw [if_neg (by decide), if_neg (by decide), if_neg (by decide)]
  rw [if_neg h1]
  rw [if_neg h2]
  rw [if_neg h3]
  rw [if_pos h4]
  rw [if_pos h5]
  rw [if_pos h6]
  rw [if_neg h7]
  rw [a1]
  dsimp only
  rw [if_neg h8]
  rw [if_pos h9]
  rw [a2]
  dsimp only
  rw [if_neg h10]
  rw [if_neg h11]
theorem R3_19 {D : Dn} {N : Nat → Bool} {p1 : Nat} (h1 : ¬ ((isSg u m p 45 || isSg u m p 33) = true)) (h2 : ¬ (isSg u m p 40 = true)) (h3 : ¬ (tkK u m p = 2)) (h4 : tkK u m p = 1) (h5 : 0 ≤ fnW u m p) (h6 : isSg u m (tkT u m p) 40 = true) (h7 : ¬ (24 ≤ dp)) (a1 : RdR u m fd bk 0 0 (dp + 1) (tkT u m (tkT u m p)) acc (.inr (D, N, p1))) (h8 : ¬ (4 < fnW u m p)) (h9 : ¬ (isSg u m p1 44 = true)) : RdR u m fd bk 3 0 dp p acc (.inl (tkF u m p1)) := by
  obtain ⟨g1, a1⟩ := a1
  refine ⟨g1 + 1, ?_⟩
  unfold pS
  rw [if_neg (by decide), if_neg (by decide), if_neg (by decide)]
  rw [if_neg h1]
  rw [if_neg h2]
  rw [if_neg h3]
  rw [if_pos h4]
  rw [if_pos h5]
  rw [if_pos h6]
  rw [if_neg h7]
  rw [a1]
  dsimp only
  rw [if_neg h8]
  rw [if_neg h9]
theorem R3_20 (h1 : ¬ ((isSg u m p 45 || isSg u m p 33) = true)) (h2 : ¬ (isSg u m p 40 = true)) (h3 : ¬ (tkK u m p = 2)) (h4 : tkK u m p = 1) (h5 : 0 ≤ fnW u m p) (h6 : ¬ (isSg u m (tkT u m p) 40 = true)) : RdR u m fd bk 3 0 dp p acc (.inl (tkF u m (tkT u m p))) := by
  refine ⟨0 + 1, ?_⟩
  unfold pS
  rw [if_neg (by decide), if_neg (by decide), if_neg (by decide)]
  rw [if_neg h1]
  rw [if_neg h2]
  rw [if_neg h3]
  rw [if_pos h4]
  rw [if_pos h5]
  rw [if_neg h6]
theorem R3_21 (h1 : ¬ ((isSg u m p 45 || isSg u m p 33) = true)) (h2 : ¬ (isSg u m p 40 = true)) (h3 : ¬ (tkK u m p = 2)) (h4 : tkK u m p = 1) (h5 : ¬ (0 ≤ fnW u m p)) (h6 : fd p < 0) : RdR u m fd bk 3 0 dp p acc (.inl (tkF u m p)) := by
  refine ⟨0 + 1, ?_⟩
  unfold pS
  rw [if_neg (by decide), if_neg (by decide), if_neg (by decide)]
  rw [if_neg h1]
  rw [if_neg h2]
  rw [if_neg h3]
  rw [if_pos h4]
  rw [if_neg h5]
  rw [if_pos h6]
theorem R3_22 (h1 : ¬ ((isSg u m p 45 || isSg u m p 33) = true)) (h2 : ¬ (isSg u m p 40 = true)) (h3 : ¬ (tkK u m p = 2)) (h4 : tkK u m p = 1) (h5 : ¬ (0 ≤ fnW u m p)) (h6 : ¬ (fd p < 0)) (h7 : bk (fd p).toNat = true) : RdR u m fd bk 3 0 dp p acc (.inl (tkF u m p)) := by
  refine ⟨0 + 1, ?_⟩
  unfold pS
  rw [if_neg (by decide), if_neg (by decide), if_neg (by decide)]
  rw [if_neg h1]
  rw [if_neg h2]
  rw [if_neg h3]
  rw [if_pos h4]
  rw [if_neg h5]
  rw [if_neg h6]
  rw [if_pos h7]
theorem R3_23 (h1 : ¬ ((isSg u m p 45 || isSg u m p 33) = true)) (h2 : ¬ (isSg u m p 40 = true)) (h3 : ¬ (tkK u m p = 2)) (h4 : tkK u m p = 1) (h5 : ¬ (0 ≤ fnW u m p)) (h6 : ¬ (fd p < 0)) (h7 : ¬ (bk (fd p).toNat = true)) : RdR u m fd bk 3 0 dp p acc (.inr (fun e => e (fd p).toNat, fun v => decide (v = (fd p).toNat), (tkT u m p))) := by
  refine ⟨0 + 1, ?_⟩
  unfold pS
  rw [if_neg (by decide), if_neg (by decide), if_neg (by decide)]
  rw [if_neg h1]
  rw [if_neg h2]
  rw [if_neg h3]
  rw [if_pos h4]
  rw [if_neg h5]
  rw [if_neg h6]
  rw [if_neg h7]
theorem R3_24 (h1 : ¬ ((isSg u m p 45 || isSg u m p 33) = true)) (h2 : ¬ (isSg u m p 40 = true)) (h3 : ¬ (tkK u m p = 2)) (h4 : ¬ (tkK u m p = 1)) : RdR u m fd bk 3 0 dp p acc (.inl (tkF u m p)) := by
  refine ⟨0 + 1, ?_⟩
  unfold pS
  rw [if_neg (by decide), if_neg (by decide), if_neg (by decide)]
  rw [if_neg h1]
  rw [if_neg h2]
  rw [if_neg h3]
  rw [if_neg h4]
end R3
