/-! L3: a stretch of a text as a text of its own -/
/-- the stretch from s to e of u is u' -/
def SubT (u : Nat → Int) (m : Nat) (u' : Nat → Int) (m' s e : Nat) : Prop := s ≤ e ∧ e ≤ m ∧ m' = e - s ∧ (∀ i, s + i < e → u' i = u (s + i)) ∧ (e = m ∨ u e = 59) ∧ ∀ i, i < m → 0 ≤ u i ∧ u i < 256
section SHIFT
variable {u u' : Nat → Int} {m m' s e : Nat}
theorem sub_ch (S : SubT u m u' m' s e) {j : Nat} (h1 : s ≤ j) (h2 : j < e) : chr u' m' (j - s) = chr u m j := by
  obtain ⟨a1, a2, a3, a4, a5, a6⟩ := S
  unfold chr
  rw [if_pos (by omega), if_pos (by omega), a4 (j - s) (by omega), show s + (j - s) = j by omega]
theorem sub_e (S : SubT u m u' m' s e) : chr u' m' (e - s) = -1 ∧ (chr u m e = -1 ∨ chr u m e = 59) := by
  obtain ⟨a1, a2, a3, a4, a5, a6⟩ := S
  refine ⟨if_neg (by omega), ?_⟩
  by_cases h : e = m
  · exact Or.inl (if_neg (by omega))
  · exact Or.inr ((if_pos (by omega)).trans (a5.resolve_left h))
theorem sub_en {P : Int → Bool} (S : SubT u m u' m' s e) (hP : P (-1) = false) (h59 : P 59 = false) : ∀ k q, e - q = k → s ≤ q → q ≤ e → en P u' m' (q - s) = en P u m q - s ∧ q ≤ en P u m q ∧ en P u m q ≤ e := by
  intro k
  induction k with
  | zero =>
    intro q hk h1 h2
    obtain rfl : q = e := by omega
    obtain ⟨e1, e2⟩ := sub_e S
    have f1 : P (chr u m q) = false := by rcases e2 with e2 | e2 <;> rw [e2] <;> assumption
    rw [en_f f1, en_f (by rw [e1]; exact hP)]
    exact ⟨rfl, Nat.le_refl _, Nat.le_refl _⟩
  | succ k ih =>
    intro q hk h1 h2
    have ec := sub_ch S (j := q) h1 (by omega)
    cases h : P (chr u m q) with
    | true =>
      obtain ⟨i1, i2, i3⟩ := ih (q + 1) (by omega) (by omega) (by omega)
      rw [(en_t hP h).1, (en_t (u := u') (m := m') (p := q - s) hP (by rw [ec]; exact h)).1, show q - s + 1 = q + 1 - s by omega]
      exact ⟨i1, by omega, i3⟩
    | false =>
      rw [en_f h, en_f (by rw [ec]; exact h)]
      exact ⟨rfl, Nat.le_refl _, h2⟩
/-- a test that does not tell a ; from the end -/
theorem sub_t {α : Type} {f : Int → α} (S : SubT u m u' m' s e) (hf : f 59 = f (-1)) {j : Nat} (h1 : s ≤ j) (h2 : j ≤ e) : f (chr u' m' (j - s)) = f (chr u m j) := by
  by_cases h : j = e
  · subst h
    obtain ⟨e1, e2⟩ := sub_e S
    rw [e1]
    rcases e2 with e2 | e2 <;> rw [e2]
    exact hf.symm
  · rw [sub_ch S h1 (by omega)]
theorem hor_mv (S : SubT u m u' m' s e) : ∀ (k p : Nat) (a : Int), s ≤ p → p + k ≤ e → hor u' k (p - s) a = hor u k p a
  | 0, _, _, _, _ => rfl
  | k + 1, p, a, h1, h2 => by
    show hor u' k (p - s + 1) (10 * a + (u' (p - s) - 48)) = hor u k (p + 1) (10 * a + (u p - 48))
    rw [S.2.2.2.1 (p - s) (by omega), show s + (p - s) = p by omega, show p - s + 1 = p + 1 - s by omega]
    exact hor_mv S k (p + 1) _ (by omega) (by omega)
theorem two2_59 {c : Int} (h1 : -1 ≤ c) (h2 : c < 256) : two2 c 59 = two2 c (-1) := by
  unfold two2
  rw [show decide ((0 : Int) ≤ -1) = false from rfl, Bool.false_and, show decide ((0 : Int) ≤ 59) = true from rfl, Bool.true_and]
  rw [decide_eq_false (show ¬ c * 256 + 59 = 31868 by omega), decide_eq_false (show ¬ c * 256 + 59 = 9766 by omega), decide_eq_false (show ¬ c * 256 + 59 = 15677 by omega), decide_eq_false (show ¬ c * 256 + 59 = 8509 by omega), decide_eq_false (show ¬ c * 256 + 59 = 15421 by omega), decide_eq_false (show ¬ c * 256 + 59 = 15933 by omega)]
  rfl
/-- the number at f -/
theorem sub_num (S : SubT u m u' m' s e) {f : Nat} (h1 : s ≤ f) (h2 : f < e) : nE1 u' m' (f - s) = nE1 u m f - s ∧ f ≤ nE1 u m f ∧ nE1 u m f ≤ e ∧ nPt u' m' (f - s) = nPt u m f ∧ nE2 u' m' (f - s) = nE2 u m f - s ∧ nE1 u m f ≤ nE2 u m f ∧ nE2 u m f ≤ e ∧ (nPt u m f = true → nE1 u m f + 1 < nE2 u m f) := by
  obtain ⟨i1, i2, i3⟩ := sub_en (P := isD) S rfl rfl _ f rfl h1 (by omega)
  have e1 : nE1 u' m' (f - s) = nE1 u m f - s := i1
  have i2 : f ≤ nE1 u m f := i2
  have i3 : nE1 u m f ≤ e := i3
  have ep : nPt u' m' (f - s) = nPt u m f := by
    unfold nPt
    rw [e1]
    rw [sub_t (f := fun x => decide (x = 46)) S rfl (by omega) i3]
    by_cases h : nE1 u m f = e
    · have : decide (chr u m (nE1 u m f) = 46) = false := by
        rw [h]
        rcases (sub_e S).2 with z | z <;> rw [z] <;> rfl
      rw [this]; rfl
    · rw [show nE1 u m f - s + 1 = nE1 u m f + 1 - s by omega, sub_t (f := isD) S rfl (by omega) (by omega)]
  refine ⟨e1, i2, i3, ep, ?_⟩
  unfold nE2
  rw [ep, e1]
  cases hp : nPt u m f with
  | false =>
    rw [if_neg (by decide), if_neg (by decide)]
    exact ⟨rfl, Nat.le_refl _, i3, fun z => by cases z⟩
  | true =>
    rw [if_pos rfl, if_pos rfl]
    have hp2 := hp
    unfold nPt at hp2
    rw [Bool.and_eq_true, decide_eq_true_eq] at hp2
    have hlt : nE1 u m f < e := by
      by_cases h : nE1 u m f = e
      · rw [h] at hp2
        rcases (sub_e S).2 with z | z <;> rw [z] at hp2 <;> exact absurd hp2.1 (by decide)
      · omega
    obtain ⟨j1, j2, j3⟩ := sub_en (P := isD) S rfl rfl _ (nE1 u m f + 1) rfl (by omega) (by omega)
    rw [show nE1 u m f - s + 1 = nE1 u m f + 1 - s by omega]
    have ge := (en_t (P := isD) rfl hp2.2).1
    have g2 : nE1 u m f + 1 + 1 ≤ en isD u m (nE1 u m f + 1) := by rw [ge]; exact en_ge
    exact ⟨j1, by omega, j3, fun _ => by omega⟩
/-- the sign at q -/
theorem sub_tok (S : SubT u m u' m' s e) {q : Nat} (h1 : s ≤ q) (h2 : q ≤ e) (hF : tkF u m q < e) : tkF u' m' (q - s) = tkF u m q - s ∧ s ≤ tkF u m q ∧ tkF u m q ≤ tkT u m q ∧ tkT u m q ≤ e ∧ tkT u' m' (q - s) = tkT u m q - s ∧ tkK u' m' (q - s) = tkK u m q ∧ tkS u' m' (q - s) = tkS u m q ∧ (tkK u m q = 2 → nAb u' m' (tkF u' m' (q - s)) = nAb u m (tkF u m q) ∧ nBe u' m' (tkF u' m' (q - s)) = nBe u m (tkF u m q)) := by
  obtain ⟨f1, f2, f3⟩ := sub_en (P := isS) S rfl rfl _ q rfl h1 h2
  have f1 : tkF u' m' (q - s) = tkF u m q - s := f1
  have f2 : q ≤ tkF u m q := f2
  generalize hf : tkF u m q = f at *
  have ec := sub_ch S (j := f) (by omega) hF
  have hu := S.2.2.2.2.2
  have cr : 0 ≤ chr u m f ∧ chr u m f < 256 := by
    have := S.2.1
    unfold chr
    rw [if_pos (by omega)]
    exact hu f (by omega)
  obtain ⟨n1, n2, n3, n4, n5, n6, n7, n8⟩ := sub_num S (f := f) (by omega) hF
  obtain ⟨w1, w2, w3⟩ := sub_en (P := isW) S rfl rfl _ f rfl (by omega) (by omega)
  have e2 : two2 (chr u' m' (f - s)) (chr u' m' (f - s + 1)) = two2 (chr u m f) (chr u m (f + 1)) := by
    rw [ec, show f - s + 1 = f + 1 - s by omega]
    exact sub_t (f := fun x => two2 (chr u m f) x) S (two2_59 (by omega) cr.2) (by omega) (by omega)
  have es : sgc (chr u' m' (f - s)) (chr u' m' (f - s + 1)) = sgc (chr u m f) (chr u m (f + 1)) := by
    unfold sgc
    rw [e2, ec]
    cases h : two2 (chr u m f) (chr u m (f + 1)) with
    | false => rfl
    | true =>
      rw [if_pos rfl, if_pos rfl]
      by_cases z : f + 1 = e
      · exfalso
        rw [z] at h
        rcases (sub_e S).2 with y | y
        · rw [y] at h
          unfold two2 at h
          rw [show decide ((0 : Int) ≤ -1) = false from rfl, Bool.false_and] at h
          cases h
        · rw [y, two2_59 (by omega) cr.2] at h
          unfold two2 at h
          rw [show decide ((0 : Int) ≤ -1) = false from rfl, Bool.false_and] at h
          cases h
      · rw [show f - s + 1 = f + 1 - s by omega, sub_ch S (by omega) (by omega)]
  have eo : nOK u' m' (f - s) = nOK u m f := by
    unfold nOK
    rw [n1, n4, n5, show nE1 u m f - s - (f - s) = nE1 u m f - f by omega, show nE2 u m f - s - (nE1 u m f - s) = nE2 u m f - nE1 u m f by omega]
  have hn0 : ¬ chr u m f < 0 := by omega
  have two_le : two2 (chr u m f) (chr u m (f + 1)) = true → f + 2 ≤ e := fun h => by
    by_cases z : f + 1 = e
    · exfalso
      rw [z] at h
      rcases (sub_e S).2 with y | y
      · rw [y] at h
        unfold two2 at h
        rw [show decide ((0 : Int) ≤ -1) = false from rfl, Bool.false_and] at h
        cases h
      · rw [y, two2_59 (by omega) cr.2] at h
        unfold two2 at h
        rw [show decide ((0 : Int) ≤ -1) = false from rfl, Bool.false_and] at h
        cases h
    · omega
  refine ⟨f1, by omega, ?_, ?_, ?_, ?_, ?_, fun k2 => ?_⟩
  · unfold tkT
    rw [hf, if_neg (by omega)]
    split
    · exact w2
    split
    · omega
    · split <;> omega
  · unfold tkT
    rw [hf, if_neg (by omega)]
    split
    · exact w3
    split
    · omega
    · split
      · next h => have := two_le h; omega
      · omega
  · unfold tkT
    rw [f1, hf, e2, ec, if_neg hn0, if_neg hn0]
    by_cases cL : isL (chr u m f) = true
    · rw [if_pos cL, if_pos cL]; exact w1
    rw [if_neg cL, if_neg cL]
    by_cases cD : isD (chr u m f) = true
    · rw [if_pos cD, if_pos cD]; exact n5
    rw [if_neg cD, if_neg cD]
    split <;> omega
  · unfold tkK
    rw [f1, hf, ec, if_neg hn0, if_neg hn0, w1, eo, show en isW u m f - s - (f - s) = en isW u m f - f by omega]
  · unfold tkS
    rw [f1, hf, es, ec]
  · rw [f1]
    unfold nAb nBe
    rw [n4, n1, n5]
    cases hp : nPt u m f with
    | false =>
      rw [if_neg (by decide), if_neg (by decide), if_neg (by decide), if_neg (by decide)]
      refine ⟨?_, rfl⟩
      rw [show nE1 u m f - s - (f - s) = nE1 u m f - f by omega]
      exact hor_mv S _ _ _ (by omega) (by omega)
    | true =>
      have := n8 hp
      rw [if_pos rfl, if_pos rfl, if_pos rfl, if_pos rfl, show nE2 u m f - s - (nE1 u m f - s) - 1 = nE2 u m f - nE1 u m f - 1 by omega, show nE1 u m f - s - (f - s) = nE1 u m f - f by omega, show nE1 u m f - s + 1 = nE1 u m f + 1 - s by omega]
      refine ⟨?_, rfl⟩
      rw [hor_mv S _ f _ (by omega) (by omega)]
      exact hor_mv S _ _ _ (by omega) (by omega)
/-- a sign ends with no space -/
theorem en_stop_at {P : Int → Bool} {q j : Nat} (hP : P (-1) = false) (h1 : q ≤ j) (h2 : P (chr u m j) = false) : en P u m q ≤ j := by
  rcases Nat.lt_or_ge j (en P u m q) with h | h
  · have := en_all (P := P) (u := u) (m := m) hP _ q rfl j h1 h
    rw [h2] at this; cases this
  · exact h
theorem isW_nS {c : Int} (h : isW c = true) : isS c = false := by
  cases z : isS c with
  | false => rfl
  | true =>
    unfold isS at z
    rw [of_decide_eq_true z] at h
    exact absurd h (by decide)
theorem isD_nS {c : Int} (h : isD c = true) : isS c = false := isW_nS (by unfold isW; rw [h, Bool.or_true]; rfl)
theorem two_nS {c x : Int} (h : two2 c x = true) (h1 : -1 ≤ x) (h2 : x < 256) : isS x = false := by
  cases z : isS x with
  | false => rfl
  | true =>
    unfold isS at z
    rw [of_decide_eq_true z] at h
    unfold two2 at h
    simp only [Bool.and_eq_true, Bool.or_eq_true, decide_eq_true_eq] at h
    omega
theorem last_ns (hu : ∀ i, i < m → 0 ≤ u i ∧ u i < 256) {P : Nat} (L : LastT u m P) : 0 < P ∧ isS (chr u m (P - 1)) = false := by
  obtain ⟨r, k, rfl⟩ := L
  have hF : isS (chr u m (tkF u m r)) = false := en_stop (P := isS) rfl
  generalize hf : tkF u m r = f at *
  have h0 : ¬ chr u m f < 0 := fun z => k (by unfold tkK; rw [hf, if_pos z])
  unfold tkT
  rw [hf, if_neg h0]
  have big : ∀ (P : Int → Bool) (p : Nat), P (-1) = false → (∀ c, P c = true → isS c = false) → P (chr u m p) = true → 0 < en P u m p ∧ isS (chr u m (en P u m p - 1)) = false := fun P p hP hc h => by
    have e1 := (en_t hP h).1
    have e2 : p + 1 ≤ en P u m (p + 1) := en_ge
    refine ⟨by omega, hc _ (en_all (P := P) (u := u) (m := m) hP _ p rfl _ (by omega) (by omega))⟩
  split
  · next hl => exact big isW f rfl (fun c => isW_nS) (by unfold isW; rw [hl]; rfl)
  split
  · next hl hd =>
    unfold nE2
    split
    · next hp =>
      unfold nPt at hp
      rw [Bool.and_eq_true] at hp
      exact big isD _ rfl (fun c => isD_nS) hp.2
    · exact big isD f rfl (fun c => isD_nS) hd
  · split
    · next h2 =>
      refine ⟨by omega, ?_⟩
      have cr := chr_r (i := f + 1) hu
      exact two_nS h2 cr.1 cr.2
    · exact ⟨by omega, hF⟩
theorem ta_of {fd fd' : Nat → Int} {P : Nat} (S : SubT u m u' m' s e) (L : LastT u m P) (hP : P ≤ e) (hfd : ∀ q, s ≤ q → q < P → tkK u m q = 1 → 0 ≤ fd q → fd' (q - s) = fd q) : TA u m fd u' m' fd' s P := by
  obtain ⟨l1, l2⟩ := last_ns S.2.2.2.2.2 L
  have words : ∀ q, s ≤ q → q ≤ e → tkF u m q < e → ∀ w, isWd u' m' (q - s) w ↔ isWd u m q w := fun q h1 h2 h3 w => by
    obtain ⟨a1, a2, a3, a4, a5, a6, a7, a8⟩ := sub_tok S h1 h2 h3
    unfold isWd
    rw [a6, a1, a5, show tkT u m q - s - (tkF u m q - s) = tkT u m q - tkF u m q by omega]
    refine and_congr_right (fun _ => and_congr_right (fun hl => ?_))
    refine forall_congr' (fun i => forall_congr' (fun c => ?_))
    refine imp_congr_right (fun hi => ?_)
    have hil : i < w.length := by
      by_cases z : i < w.length
      · exact z
      · rw [List.getElem?_eq_none (by omega)] at hi; cases hi
    rw [S.2.2.2.1 (tkF u m q - s + i) (by omega), show s + (tkF u m q - s + i) = tkF u m q + i by omega]
  refine ⟨fun q h1 h2 => ?_, fun q h1 h2 => ?_⟩
  · by_cases hF : tkF u m q < e
    · obtain ⟨a1, a2, a3, a4, a5, a6, a7, a8⟩ := sub_tok S h1 (by omega) hF
      refine ⟨fun x _ => by unfold isSg; rw [a6, a7], by unfold levF; rw [a6, a7], words q h1 (by omega) hF⟩
    · obtain ⟨f1, f2, f3⟩ := sub_en (P := isS) S rfl rfl _ q rfl h1 (by omega)
      have f3 : tkF u m q ≤ e := f3
      have ef : tkF u m q = e := by omega
      have f1 : tkF u' m' (q - s) = e - s := by rw [← ef]; exact f1
      obtain ⟨e1, e2⟩ := sub_e S
      have k0 : tkK u' m' (q - s) = 0 := by unfold tkK; rw [f1, e1, if_pos (by decide)]
      rcases e2 with e2 | e2
      · have k1 : tkK u m q = 0 := by unfold tkK; rw [ef, e2, if_pos (by decide)]
        refine ⟨fun x _ => by unfold isSg; rw [k0, k1]; rfl, by unfold levF; rw [k0, k1]; rfl, fun w => ?_⟩
        unfold isWd
        rw [k0, k1]
        exact ⟨fun z => absurd z.1 (by decide), fun z => absurd z.1 (by decide)⟩
      · have k1 : tkK u m q = 3 := by unfold tkK; rw [ef, e2]; rfl
        have cr := chr_r (u := u) (m := m) (i := e + 1) S.2.2.2.2.2
        have t2 : two2 59 (chr u m (e + 1)) = false := by
          cases z : two2 59 (chr u m (e + 1)) with
          | false => rfl
          | true =>
            unfold two2 at z
            simp only [Bool.and_eq_true, Bool.or_eq_true, decide_eq_true_eq] at z
            omega
        have s1 : tkS u m q = 59 := by
          unfold tkS
          rw [ef, e2, if_neg (by decide)]
          unfold sgc
          rw [t2, if_neg (by decide), if_pos (by decide)]
        refine ⟨fun x hx => ?_, by unfold levF; rw [k0, k1, s1]; rfl, fun w => ?_⟩
        · unfold isSg
          rw [k0, k1, s1, decide_eq_false (show ¬ (59 : Int) = x from fun z => hx z.symm)]; rfl
        · unfold isWd
          rw [k0, k1]
          exact ⟨fun z => absurd z.1 (by decide), fun z => absurd z.1 (by decide)⟩
  · have hF : tkF u m q ≤ P - 1 := en_stop_at (P := isS) rfl (by omega) l2
    obtain ⟨a1, a2, a3, a4, a5, a6, a7, a8⟩ := sub_tok S h1 (by omega) (by omega)
    exact ⟨a5, a6, a7, a8, fun k1 hf => hfd q h1 h2 k1 hf⟩
end SHIFT
