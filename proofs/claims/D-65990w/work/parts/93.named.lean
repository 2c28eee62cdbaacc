/-! L3: Formulas: what a formula rests on is named in its text -/
def Nm (u c b : Nat → Int) (m nv p w : Nat) : Prop := ∃ g, nmB u c b m nv g p w = true
section NM
variable {u c b : Nat → Int} {m nv : Nat} {bk : Nat → Bool}
theorem Nm.st {p w : Nat} (k : tkK u m p ≠ 0) (h : Nm u c b m nv (tkT u m p) w) : Nm u c b m nv p w := by
  obtain ⟨g, h⟩ := h
  exact ⟨g + 1, by unfold nmB; rw [if_neg k, h, Bool.or_true]⟩
theorem Nm.sg {p w : Nat} {s : Int} (k : isSg u m p s = true) (h : Nm u c b m nv (tkT u m p) w) : Nm u c b m nv p w := Nm.st (by have := (isSg_iff.mp k).1; omega) h
theorem Nm.here {p w : Nat} (k : tkK u m p = 1) (h : fdC c nv b u m p = (w : Int)) : Nm u c b m nv p w := by
  unfold fdC at h
  exact ⟨1, by unfold nmB; rw [if_neg (by omega), decide_eq_true k, decide_eq_true h]; rfl⟩
theorem lev_k {p : Nat} {lst : Int} (h : lst ≤ levF u m p) (h0 : 0 ≤ lst := by omega) : tkK u m p ≠ 0 := fun e => by
  unfold levF at h
  rw [e, if_neg (by decide)] at h
  omega
theorem num_nm {p w : Nat} (k2 : tkK u m p = 2) (h : Nm u c b m nv (numD u m p).2 w) : Nm u c b m nv p w := by
  refine Nm.st (by omega) ?_
  unfold numD at h
  by_cases w1 : isWd u m (tkT u m p) [109, 109]
  · rw [itP_t w1] at h
    exact Nm.st (by have := w1.1; omega) h
  rw [itP_f w1] at h
  by_cases w2 : isWd u m (tkT u m p) [99, 109]
  · rw [itP_t w2] at h
    exact Nm.st (by have := w2.1; omega) h
  rw [itP_f w2] at h
  by_cases w3 : isWd u m (tkT u m p) [105, 110]
  · rw [itP_t w3] at h
    exact Nm.st (by have := w3.1; omega) h
  rw [itP_f w3] at h
  exact h
theorem or_of {a b : Nat → Bool} {w : Nat} (h : orN a b w = true) : a w = true ∨ b w = true := by unfold orN at h; rwa [Bool.or_eq_true] at h
def Oka (u c b : Nat → Int) (m nv p : Nat) (o : Option PR) : Prop := ∀ D N p', o = some (.inr (D, N, p')) → (∀ w, N w = true → Nm u c b m nv p w) ∧ ∀ w, Nm u c b m nv p' w → Nm u c b m nv p w
theorem Oka.n {p : Nat} : Oka u c b m nv p none := fun _ _ _ h => by cases h
theorem Oka.l {p e : Nat} : Oka u c b m nv p (some (.inl e)) := fun _ _ _ h => by cases h
theorem Oka.r {p : Nat} {D : Dn} {N : Nat → Bool} {q : Nat} (h1 : ∀ w, N w = true → Nm u c b m nv p w) (h2 : ∀ w, Nm u c b m nv q w → Nm u c b m nv p w) : Oka u c b m nv p (some (.inr (D, N, q))) := fun D' N' p' e => by
  have e := Sum.inr.inj (Option.some.inj e)
  have e1 : N = N' := congrArg (fun z => z.2.1) e
  have e2 : q = p' := congrArg (fun z => z.2.2) e
  rw [← e1, ← e2]; exact ⟨h1, h2⟩
theorem pS_nm : ∀ g : Nat,
    (∀ dp p acc, Oka u c b m nv p (pS u m (fdC c nv b u m) bk g 0 0 dp p acc)) ∧
    (∀ lst dp p acc, (0 : Int) ≤ lst → Oka u c b m nv p (pS u m (fdC c nv b u m) bk g 1 lst dp p acc)) ∧
    (∀ lst dp p0 p acc, (0 : Int) ≤ lst → (∀ w, acc.2 w = true → Nm u c b m nv p0 w) → (∀ w, Nm u c b m nv p w → Nm u c b m nv p0 w) → Oka u c b m nv p0 (pS u m (fdC c nv b u m) bk g 2 lst dp p acc)) ∧
    (∀ dp p acc, Oka u c b m nv p (pS u m (fdC c nv b u m) bk g 3 0 dp p acc))
  | 0 => ⟨fun _ _ _ => Oka.n, fun _ _ _ _ _ => Oka.n, fun _ _ _ _ _ _ _ _ => Oka.n, fun _ _ _ => Oka.n⟩
  | g + 1 => by
    obtain ⟨iA, iB, iC, iD⟩ := pS_nm g
    refine ⟨fun dp p acc => ?_, fun lst dp p acc hl => ?_, fun lst dp p0 p acc hl hacc h0 => ?_, fun dp p acc => ?_⟩
    · unfold pS
      rw [if_pos rfl]
      have k1 := iB 0 dp p acc (by decide)
      cases e1 : pS u m (fdC c nv b u m) bk g 1 0 dp p acc with
      | none => exact Oka.n
      | some r1 =>
      rw [e1] at k1
      rcases r1 with e | ⟨D, N, p1⟩
      · exact Oka.l
      dsimp only
      have yD := k1 D N p1 rfl
      cases hq : isSg u m p1 63 with
      | false => exact Oka.r yD.1 yD.2
      | true =>
      rw [if_pos rfl]
      by_cases h24 : 24 ≤ dp
      · rw [if_pos h24]; exact Oka.l
      rw [if_neg h24]
      have k2 := iA (dp + 1) (tkT u m p1) acc
      cases e2 : pS u m (fdC c nv b u m) bk g 0 0 (dp + 1) (tkT u m p1) acc with
      | none => exact Oka.n
      | some r2 =>
      rw [e2] at k2
      rcases r2 with e | ⟨D2, N2, p2⟩
      · exact Oka.l
      dsimp only
      have yD2 := k2 D2 N2 p2 rfl
      cases hq2 : isSg u m p2 58 with
      | false => exact Oka.l
      | true =>
      rw [if_pos rfl]
      have k3 := iA (dp + 1) (tkT u m p2) acc
      cases e3 : pS u m (fdC c nv b u m) bk g 0 0 (dp + 1) (tkT u m p2) acc with
      | none => exact Oka.n
      | some r3 =>
      rw [e3] at k3
      rcases r3 with e | ⟨D3, N3, p3⟩
      · exact Oka.l
      have yD3 := k3 D3 N3 p3 rfl
      exact Oka.r (fun w z => (or_of z).elim (yD.1 w) (fun z => (or_of z).elim (fun z => yD.2 w (Nm.sg hq (yD2.1 w z))) (fun z => yD.2 w (Nm.sg hq (yD2.2 w (Nm.sg hq2 (yD3.1 w z))))))) (fun w z => yD.2 w (Nm.sg hq (yD2.2 w (Nm.sg hq2 (yD3.2 w z)))))
    · unfold pS
      rw [if_neg (by decide), if_pos rfl]
      have k1 := iD dp p acc
      cases e1 : pS u m (fdC c nv b u m) bk g 3 0 dp p acc with
      | none => exact Oka.n
      | some r1 =>
      rw [e1] at k1
      rcases r1 with e | ⟨D, N, p1⟩
      · exact Oka.l
      have yD := k1 D N p1 rfl
      exact iC lst dp p p1 (D, N) hl yD.1 yD.2
    · unfold pS
      rw [if_neg (by decide), if_neg (by decide), if_pos rfl]
      by_cases hl2 : lst ≤ levF u m p
      · rw [if_pos hl2]
        have k1 := iB (levF u m p + 1) dp (tkT u m p) acc (by omega)
        cases e1 : pS u m (fdC c nv b u m) bk g 1 (levF u m p + 1) dp (tkT u m p) acc with
        | none => exact Oka.n
        | some r1 =>
        rw [e1] at k1
        rcases r1 with e | ⟨D, N, p1⟩
        · exact Oka.l
        have yD := k1 D N p1 rfl
        have hk := lev_k hl2 hl
        exact iC lst dp p0 p1 _ hl (fun w z => (or_of z).elim (hacc w) (fun z => h0 w (Nm.st hk (yD.1 w z)))) (fun w z => h0 w (Nm.st hk (yD.2 w z)))
      · rw [if_neg hl2]
        exact Oka.r hacc h0
    · unfold pS
      rw [if_neg (by decide), if_neg (by decide), if_neg (by decide)]
      by_cases hs : (isSg u m p 45 || isSg u m p 33) = true
      · rw [if_pos hs]
        by_cases h24 : 24 ≤ dp
        · rw [if_pos h24]; exact Oka.l
        rw [if_neg h24]
        have k1 := iD (dp + 1) (tkT u m p) acc
        cases e1 : pS u m (fdC c nv b u m) bk g 3 0 (dp + 1) (tkT u m p) acc with
        | none => exact Oka.n
        | some r1 =>
        rw [e1] at k1
        rcases r1 with e | ⟨D, N, p1⟩
        · exact Oka.l
        have yD := k1 D N p1 rfl
        have hk : tkK u m p ≠ 0 := by
          rw [Bool.or_eq_true] at hs
          rcases hs with z | z <;> (have := (isSg_iff.mp z).1; omega)
        exact Oka.r (fun w z => Nm.st hk (yD.1 w z)) (fun w z => Nm.st hk (yD.2 w z))
      rw [if_neg hs]
      by_cases h40 : isSg u m p 40 = true
      · rw [if_pos h40]
        by_cases h24 : 24 ≤ dp
        · rw [if_pos h24]; exact Oka.l
        rw [if_neg h24]
        have k1 := iA (dp + 1) (tkT u m p) acc
        cases e1 : pS u m (fdC c nv b u m) bk g 0 0 (dp + 1) (tkT u m p) acc with
        | none => exact Oka.n
        | some r1 =>
        rw [e1] at k1
        rcases r1 with e | ⟨D, N, p1⟩
        · exact Oka.l
        dsimp only
        have yD := k1 D N p1 rfl
        cases h41 : isSg u m p1 41 with
        | false => exact Oka.l
        | true =>
          exact Oka.r (fun w z => Nm.sg h40 (yD.1 w z)) (fun w z => Nm.sg h40 (yD.2 w (Nm.sg h41 z)))
      rw [if_neg h40]
      by_cases k2 : tkK u m p = 2
      · rw [if_pos k2]
        exact Oka.r (fun w z => by cases z) (fun w z => num_nm k2 z)
      rw [if_neg k2]
      by_cases k1 : tkK u m p = 1
      · have wd : ∀ {w : Nat}, Nm u c b m nv (tkT u m p) w → Nm u c b m nv p w := fun z => Nm.st (by omega) z
        rw [if_pos k1]
        by_cases hf : 0 ≤ fnW u m p
        · rw [if_pos hf]
          cases h40b : isSg u m (tkT u m p) 40 with
          | false => exact Oka.l
          | true =>
          rw [if_pos rfl]
          by_cases h24 : 24 ≤ dp
          · rw [if_pos h24]; exact Oka.l
          rw [if_neg h24]
          have q1 := iA (dp + 1) (tkT u m (tkT u m p)) acc
          cases e1 : pS u m (fdC c nv b u m) bk g 0 0 (dp + 1) (tkT u m (tkT u m p)) acc with
          | none => exact Oka.n
          | some r1 =>
          rw [e1] at q1
          rcases r1 with e | ⟨D, N, p1⟩
          · exact Oka.l
          dsimp only
          have yD := q1 D N p1 rfl
          by_cases f4 : 4 < fnW u m p
          · rw [if_pos f4]
            cases h41 : isSg u m p1 41 with
            | false => exact Oka.l
            | true =>
              exact Oka.r (fun w z => wd (Nm.sg h40b (yD.1 w z))) (fun w z => wd (Nm.sg h40b (yD.2 w (Nm.sg h41 z))))
          rw [if_neg f4]
          cases h44 : isSg u m p1 44 with
          | false => exact Oka.l
          | true =>
          rw [if_pos rfl]
          have q2 := iA (dp + 1) (tkT u m p1) acc
          cases e2 : pS u m (fdC c nv b u m) bk g 0 0 (dp + 1) (tkT u m p1) acc with
          | none => exact Oka.n
          | some r2 =>
          rw [e2] at q2
          rcases r2 with e | ⟨D2, N2, p2⟩
          · exact Oka.l
          dsimp only
          have yD2 := q2 D2 N2 p2 rfl
          by_cases f5 : fnW u m p < 4
          · rw [if_pos f5]
            cases h41 : isSg u m p2 41 with
            | false => exact Oka.l
            | true =>
              exact Oka.r (fun w z => wd (Nm.sg h40b ((or_of z).elim (yD.1 w) (fun z => yD.2 w (Nm.sg h44 (yD2.1 w z)))))) (fun w z => wd (Nm.sg h40b (yD.2 w (Nm.sg h44 (yD2.2 w (Nm.sg h41 z))))))
          rw [if_neg f5]
          cases h44b : isSg u m p2 44 with
          | false => exact Oka.l
          | true =>
          rw [if_pos rfl]
          have q3 := iA (dp + 1) (tkT u m p2) acc
          cases e3 : pS u m (fdC c nv b u m) bk g 0 0 (dp + 1) (tkT u m p2) acc with
          | none => exact Oka.n
          | some r3 =>
          rw [e3] at q3
          rcases r3 with e | ⟨D3, N3, p3⟩
          · exact Oka.l
          dsimp only
          have yD3 := q3 D3 N3 p3 rfl
          cases h41 : isSg u m p3 41 with
          | false => exact Oka.l
          | true =>
            exact Oka.r (fun w z => wd (Nm.sg h40b ((or_of z).elim (yD.1 w) (fun z => yD.2 w (Nm.sg h44 ((or_of z).elim (yD2.1 w) (fun z => yD2.2 w (Nm.sg h44b (yD3.1 w z)))))))) ) (fun w z => wd (Nm.sg h40b (yD.2 w (Nm.sg h44 (yD2.2 w (Nm.sg h44b (yD3.2 w (Nm.sg h41 z))))))))
        · rw [if_neg hf]
          by_cases f0 : fdC c nv b u m p < 0
          · rw [if_pos f0]; exact Oka.l
          rw [if_neg f0]
          by_cases hb : bk (fdC c nv b u m p).toNat = true
          · rw [if_pos hb]; exact Oka.l
          · rw [if_neg hb]; exact Oka.r (fun w z => Nm.here k1 (by have := of_decide_eq_true z; omega)) (fun w z => wd z)
      · rw [if_neg k1]; exact Oka.l
end NM
theorem nmB_up {u c b : Nat → Int} {m nv : Nat} : ∀ (g p w : Nat), nmB u c b m nv g p w = true → p ≤ m → ∀ k, m - p < k → nmB u c b m nv k p w = true
  | 0, p, w, h, _, _, _ => by unfold nmB at h; cases h
  | g + 1, p, w, h, hp, k + 1, hk => by
    unfold nmB at h ⊢
    by_cases k0 : tkK u m p = 0
    · rw [if_pos k0] at h; cases h
    · rw [if_neg k0] at h ⊢
      rw [Bool.or_eq_true] at h ⊢
      obtain ⟨a1, a2⟩ := k_lt (u := u) hp k0
      exact h.imp id (fun z => nmB_up g _ w z a2 k (by omega))
/-- what a stored text rests on, it names -/
theorem rdF_nm {c : Nat → Int} {nv nc : Nat} {tl : Int} {tof : Nat} {b u : Nat → Int} {m : Nat} {D : Dn} {N : Nat → Bool} {p' w : Nat} (h : rdF c nv nc tl tof b u m 0 = .inr (D, N, p')) (hw : N w = true) : nmB u c b m nv (m + 1) 0 w = true := by
  obtain ⟨g, e⟩ := ((pS_nm (4 * m + 4)).1 0 0 accZ D N p' ((rdF_is (Nat.zero_le m)).1.trans (congrArg some h))).1 w hw
  exact nmB_up g 0 w e (Nat.zero_le m) (m + 1) (by omega)
