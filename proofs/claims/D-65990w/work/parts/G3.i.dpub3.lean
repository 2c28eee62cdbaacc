/-! L3: the desk's public edits of sketches: drop -/
noncomputable section DPUB3
variable {gv : Nat → Int} {B n d s nk : Nat} {h : AH} {H : Nat → Nat → Int} {t : Nat → Nat} {dn tt tu mw : Nat} {x what u : Int} {c : Nat → Int} {cs : Nat → Cst} {xa xb xc : Nat → Int} {isC : Nat → Bool}
theorem alv_is {N IX : Int} {i0 : Nat} {p : Prop} (S : St B h H t dn tt tu mw) (hp : p) (hi : 0 ≤ x → x < N → IX = ((i0 : Nat) : Int) ∧ i0 < 37368) : cond (tst 2 x 0) True (p ∧ cond (tst 3 x N) True (q447 B h IX)) ∧ cond (tst 2 x 0) (0 : Int) (cond (tst 3 x N) (0 : Int) (cond (tst 1 (v447 B h IX) 1) (0 : Int) 1)) = if decide (0 ≤ x ∧ x < N ∧ H dn i0 = 1) = true then 1 else 0 := by
  rw [ct2, ct3, ct2, ct3, ct1]
  by_cases z1 : x < 0
  · rw [if_pos z1, if_pos z1, if_neg (fun w => by have := of_decide_eq_true w; omega)]; exact ⟨True.intro, rfl⟩
  · rw [if_neg z1, if_neg z1]
    by_cases z2 : x < N
    · rw [if_pos z2, if_pos z2]
      obtain ⟨e1, sb⟩ := hi (by omega) z2
      obtain ⟨c1, c2⟩ := ix_is (i := i0) S sb
      rw [e1, c2]
      refine ⟨⟨hp, c1⟩, ?_⟩
      by_cases z3 : H dn i0 = 1
      · rw [if_pos z3, if_pos (decide_eq_true ⟨by omega, z2, z3⟩)]
      · rw [if_neg z3, if_neg (fun w => z3 (of_decide_eq_true w).2.2)]
    · rw [if_neg z2, if_neg z2, if_neg (fun w => z2 (of_decide_eq_true w).2.1)]; exact ⟨⟨hp, True.intro⟩, rfl⟩
theorem v408_any (S : St B h H t dn tt tu mw) (N : SkN (H dn)) (hs : s < 6) (hs3 : (s : Int) < H dn 3) : q408 B h (s : Int) x ∧ v408 B h (s : Int) x = if decide (0 ≤ x ∧ x < H dn (skA s + 100) ∧ H dn (diA s x.toNat + 1) = 1) = true then 1 else 0 := by
  obtain ⟨a1, a2⟩ := skc_is (i := 100) S hs (by decide)
  have lb := (N.2 s hs hs3).2.2.1
  have := alv_is (x := x) (N := H dn (skA s + 100)) (IX := bop32 96 (v396 (s : Int) x) 1) (i0 := diA s x.toNat + 1) S (show q398 B h (s : Int) from a1) (fun h1 h2 => by
    obtain ⟨k, ek⟩ : ∃ k : Nat, x = (k : Int) := ⟨x.toNat, by omega⟩
    subst ek
    have k6 : k < 6 := by omega
    have sb : diA s k + 1 < 37368 := by unfold diA skA; omega
    rw [tn, v396_is hs k6]
    exact ⟨i_k (i := 1) (by omega) (by omega), sb⟩)
  unfold q408 v408
  rw [show v398 B h (s : Int) = H dn (skA s + 100) from a2]
  exact this
theorem v407_any (S : St B h H t dn tt tu mw) (N : SkN (H dn)) (hs : s < 6) (hs3 : (s : Int) < H dn 3) : q407 B h (s : Int) x ∧ v407 B h (s : Int) x = if decide (0 ≤ x ∧ x < H dn (skA s + 479) ∧ H dn (coA s x.toNat + 4) = 1) = true then 1 else 0 := by
  obtain ⟨a1, a2⟩ := skc_is (i := 479) S hs (by decide)
  have lb := (N.2 s hs hs3).2.2.2
  have := alv_is (x := x) (N := H dn (skA s + 479)) (IX := bop32 96 (v393 (s : Int) x) 4) (i0 := coA s x.toNat + 4) S (show q394 B h (s : Int) from a1) (fun h1 h2 => by
    obtain ⟨k, ek⟩ : ∃ k : Nat, x = (k : Int) := ⟨x.toNat, by omega⟩
    subst ek
    have k6 : k < 32 := by omega
    have sb : coA s k + 4 < 37368 := by unfold coA skA; omega
    rw [tn, v393_is hs k6]
    exact ⟨i_k (i := 4) (by omega) (by omega), sb⟩)
  unfold q407 v407
  rw [show v394 B h (s : Int) = H dn (skA s + 479) from a2]
  exact this
/-- no constraint of the desk below j holds the line u -/
def nhN (c : Nat → Int) (s : Nat) (u : Int) (j : Nat) : Prop := ∀ i, i < j → ¬ (c (coA s i + 4) ≠ 0 ∧ 17 ≤ c (coA s i) ∧ (c (coA s i + 1) = u ∨ c (coA s i + 2) = u))
/-- what the desk can drop -/
def drN (c : Nat → Int) (s : Nat) (what u : Int) : Prop := 0 ≤ u ∧ ((what = 0 ∧ (u < c (skA s + 27) ∧ c (liA s u.toNat + 2) = 1) ∧ nhN c s u (c (skA s + 479)).toNat) ∨ (what = 1 ∧ u < c (skA s + 100) ∧ c (diA s u.toNat + 1) = 1) ∨ (what = 2 ∧ u < c (skA s + 479) ∧ c (coA s u.toNat + 4) = 1))
theorem hld_nh (C : CsD c s nk cs xa xb xc isC) : hldP cs xa xb isC nk u ↔ ¬ nhN c s u (c (skA s + 479)).toNat := by
  obtain ⟨C1, C2, C3⟩ := C
  rw [C1, tn]
  constructor
  · rintro ⟨k, hk, h1, h2, h3⟩ no
    obtain ⟨e1, e2, e3, e4, e5, e6, -⟩ := C3 k hk
    refine no k hk ⟨?_, ?_, ?_⟩
    · rw [e6, h1]; decide
    · rw [e1]; omega
    · rw [e3, e4]; exact h3
  · intro no
    refine Classical.byContradiction (fun z => no (fun k hk ⟨h1, h2, h3⟩ => z ?_))
    obtain ⟨e1, e2, e3, e4, e5, e6, -⟩ := C3 k hk
    rw [e1] at h2
    rw [e3, e4] at h3
    rw [e6] at h1
    refine ⟨k, hk, ?_, by omega, h3⟩
    cases e : isC k
    · rw [e] at h1; exact absurd rfl h1
    · rfl
/-- the desk's drop -/
theorem c_drop22 (l : LX B n h) (hd : 20 ≤ d) (S : St B h H t dn tt tu mw) (N : SkN (H dn)) (hC : ∀ s : Nat, s < 6 → (s : Int) < H dn 3 → ∃ nk cs xa xb xc isC, CsD (H dn) s nk cs xa xb xc isC) (hdn : dn < 100) (htu : tu < 1000000) (hmw : mw + 100 < 1000000) :
    Opx 0 (cll PP (ev PP (gsF gv) B) d 22 [(2, rf (B + 0)), (0, x), (0, what), (0, u)] h) (fun r h' => drE (H dn 3) x what = 0 ∧ ((r = 0 ∧ ¬ drN (H dn) x.toNat what u ∧ h' = h) ∨ (r = 1 ∧ drN (H dn) x.toNat what u ∧ EdR B H dn tu mw (upc (H dn) (drA x.toNat u.toNat what) 0) h h'))) (fun c q => q = h ∧ ((c = 31 ∧ drE (H dn 3) x what = 1) ∨ (c = 27 ∧ drE (H dn 3) x what = 2))) := by
  have n0 := N.1
  refine Opx.inq (D := 19) hd (Nat.le_of_ble_eq_true rfl) rfl (fun d hd R K KE => ?_)
  obtain ⟨a1, a2⟩ := v49_is (x := x) S N
  refine Ends.eq (b22_0 l (by omega)) (Ends.g a1 ?_)
  rw [a2]
  refine Ends.there l (by omega) rfl (fun p1 => ?_) (fun p1 => Ends.thn rfl (KE 31 h ⟨rfl, Or.inl ⟨rfl, ?_⟩⟩))
  rotate_left
  · have := of_decide_eq_false p1
    unfold drE
    rw [if_pos (by omega)]
  have p1' := of_decide_eq_true p1
  obtain ⟨s, es⟩ : ∃ s : Nat, x = (s : Int) := ⟨x.toNat, by omega⟩
  subst es
  rw [tn] at K
  have hs : s < 6 := by omega
  have sk0 : ¬ ((s : Int) < 0 ∨ H dn 3 ≤ (s : Int)) := by omega
  obtain ⟨-, lb, db, kb⟩ := N.2 s hs p1'.2
  refine Ends.eq (b22_8 l (by omega)) ?_
  rw [in_is]
  refine Ends.need l (by omega) rfl (fun p2 => ?_) (fun p2 => Ends.thn rfl (KE 27 h ⟨rfl, Or.inr ⟨rfl, ?_⟩⟩))
  rotate_left
  · have := of_decide_eq_false p2
    unfold drE
    rw [if_neg sk0, if_pos (by omega)]
  have p2' := of_decide_eq_true p2
  have e0 : drE (H dn 3) (s : Int) what = 0 := by
    unfold drE
    rw [if_neg sk0, if_neg (by omega)]
  -- behind the look
  have fin : ∀ y0 : Int, (y0 = 1 ∧ drN (H dn) s what u) ∨ (y0 = 0 ∧ ¬ drN (H dn) s what u) → ∀ u4 : AV, Ends (ev PP (gsF gv) B d 22 79 [(2, rf (B + 0)), (0, (s : Int)), (0, what), (0, u), u4] [(0, y0)] h) R := fun y0 hy u4 => by
    refine Ends.eq (b22_79 l (by omega)) ?_
    rcases hy with ⟨y1, can⟩ | ⟨y1, can⟩
    · rw [y1]
      refine Ends.b1 (fun _ => ?_) (fun z => absurd z (by decide))
      obtain ⟨k, ek⟩ : ∃ k : Nat, u = (k : Int) := ⟨u.toNat, by have := can.1; omega⟩
      subst ek
      have hk : (what = 0 ∧ k < 24) ∨ (what = 1 ∧ k < 6) ∨ (what ≠ 0 ∧ what ≠ 1 ∧ k < 32) := by
        rcases can.2 with ⟨w, y, _⟩ | ⟨w, y, _⟩ | ⟨w, y, _⟩
        · left; omega
        · right; left; omega
        · right; right; omega
      refine Ends.cv l (by decide +kernel) (c_drop400 (k := k) l (by omega) S hs hk hdn htu hmw) (fun h' l' _ _ _ E => ?_)
      exact Ends.eq (b22_98 l' (by omega)) (Ends.sm (K _ _ ⟨e0, Or.inr ⟨rfl, can, by rw [tn]; exact E⟩⟩))
    · rw [y1]
      exact Ends.b1 (fun z => absurd rfl z) (fun _ => Ends.sm (K _ _ ⟨e0, Or.inl ⟨rfl, can, rfl⟩⟩))
  refine Ends.eq (b22_17 l (by omega)) ?_
  by_cases w0 : what = 0
  · refine Ends.b1 (fun z => absurd w0 z) (fun _ => ?_)
    obtain ⟨q1, v1⟩ := v411_any (x := u) S N hs p1'.2
    refine Ends.g q1 ?_
    by_cases al : 0 ≤ u ∧ u < H dn (skA s + 27) ∧ H dn (liA s u.toNat + 2) = 1
    · rw [v1, if_pos (decide_eq_true al)]
      refine Ends.b0 (fun z => absurd z (by decide)) (fun _ => ?_)
      obtain ⟨nk, cs, xa, xb, xc, isC, C⟩ := hC s hs p1'.2
      refine Ends.ct l (by decide +kernel) (by decide) (c_isHeld409 (u := u) l (by omega) S.2.2.2.2.2.2.2 hs C) (fun r h1 l1 _ _ _ ⟨e1, hr⟩ => ?_)
      subst e1
      refine Ends.eq (b22_42 l1 (by omega)) (fin _ ?_ _)
      rw [ct1]
      rcases hr with ⟨r1, hl⟩ | ⟨r1, hl⟩
      · rw [r1, if_neg (by decide)]
        refine Or.inr ⟨rfl, fun ⟨_, y⟩ => ?_⟩
        rcases y with ⟨_, _, y⟩ | ⟨y, _⟩ | ⟨y, _⟩
        · exact (hld_nh C).mp hl y
        · omega
        · omega
      · rw [r1, if_pos rfl]
        exact Or.inl ⟨rfl, al.1, Or.inl ⟨w0, al.2, Classical.byContradiction (fun y => hl ((hld_nh C).mpr y))⟩⟩
    · rw [v1, if_neg (fun w => al (of_decide_eq_true w))]
      refine Ends.b0 (fun _ => ?_) (fun z => absurd rfl z)
      refine Ends.eq (b22_49 l (by omega)) (fin _ (Or.inr ⟨rfl, fun ⟨y0, y⟩ => ?_⟩) _)
      rcases y with ⟨_, y, _⟩ | ⟨y, _⟩ | ⟨y, _⟩
      · exact al ⟨y0, y⟩
      · omega
      · omega
  · refine Ends.b1 (fun _ => ?_) (fun z => absurd z w0)
    obtain ⟨q1, v1⟩ := v408_any (x := u) S N hs p1'.2
    obtain ⟨q2, v2⟩ := v407_any (x := u) S N hs p1'.2
    refine Ends.g (cond_tt q2 q1) (fin _ ?_ _)
    rw [ct1, v1, v2]
    by_cases w1 : what = 1
    · rw [if_pos w1]
      by_cases al : 0 ≤ u ∧ u < H dn (skA s + 100) ∧ H dn (diA s u.toNat + 1) = 1
      · rw [if_pos (decide_eq_true al)]
        exact Or.inl ⟨rfl, al.1, Or.inr (Or.inl ⟨w1, al.2⟩)⟩
      · rw [if_neg (fun w => al (of_decide_eq_true w))]
        refine Or.inr ⟨rfl, fun ⟨y0, y⟩ => ?_⟩
        rcases y with ⟨y, _⟩ | ⟨_, y⟩ | ⟨y, _⟩
        · omega
        · exact al ⟨y0, y⟩
        · omega
    · rw [if_neg w1]
      by_cases al : 0 ≤ u ∧ u < H dn (skA s + 479) ∧ H dn (coA s u.toNat + 4) = 1
      · rw [if_pos (decide_eq_true al)]
        exact Or.inl ⟨rfl, al.1, Or.inr (Or.inr ⟨by omega, al.2⟩)⟩
      · rw [if_neg (fun w => al (of_decide_eq_true w))]
        refine Or.inr ⟨rfl, fun ⟨y0, y⟩ => ?_⟩
        rcases y with ⟨y, _⟩ | ⟨y, _⟩ | ⟨_, y⟩
        · omega
        · omega
        · exact al ⟨y0, y⟩
end DPUB3
