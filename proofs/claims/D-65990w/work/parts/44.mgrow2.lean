-- deps: 43
-- blocks: 3 4 5
/-! L3: the model grows in all directions, takes what is left, shrinks -/
section MGROW2
variable {gv : Nat → Int} {B n d s t : Nat} {h : AH} {S T : Nat → Bool}
theorem gC_rep {g a k b : Nat} (hg : g < gN n) (hk : k < n) (ha : a < 3) (hb : b < 3) : gC n (gRep n g a k) b = if b = a then k else gC n g b := by
  obtain ⟨-, h1, h2, h3, h4⟩ := g_lt hg
  obtain rfl | rfl | rfl : a = 0 ∨ a = 1 ∨ a = 2 := by omega
  all_goals obtain rfl | rfl | rfl : b = 0 ∨ b = 1 ∨ b = 2 := by omega
  all_goals simp only [gC, gRep, gX_I, gY_I, gZ_I, hk, h1, h2, h3, h4, if_true, if_false, Nat.succ_ne_zero, reduceCtorEq, Nat.zero_ne_one, Nat.one_ne_zero, show ¬ (0 : Nat) = 2 by decide, show ¬ (1 : Nat) = 2 by decide, show ¬ (2 : Nat) = 1 by decide, show ¬ (2 : Nat) = 0 by decide]
theorem gSo_rep {g a k : Nat} : gSo (gRep n g a k) = gSo g := by
  have ht : gSo g < 24 := Nat.mod_lt _ (by decide)
  unfold gRep; split <;> exact gSo_I ht
theorem g_ext {g x : Nat} (h1 : gSo g = gSo x) (h2 : ∀ b, b < 3 → gC n g b = gC n x b) : g = x := by
  rw [← @gI_g n g, ← @gI_g n x, h1]
  have e0 : gX n g = gX n x := h2 0 (by decide)
  have e1 : gY n g = gY n x := h2 1 (by decide)
  have e2 : gZ n g = gZ n x := h2 2 (by decide)
  rw [e0, e1, e2]
theorem groS_iff {a r x : Nat} (hx : x < gN n) (ha : a < 3) : groS n S a r (gN n) x ↔ ∃ g, g < gN n ∧ S g = true ∧ gSo g = gSo x ∧ (∀ b, b < 3 → b ≠ a → gC n g b = gC n x b) ∧ gC n x a ≤ gC n g a + r ∧ gC n g a ≤ gC n x a + r := by
  constructor
  · rintro ⟨g, h1, h2, k, h3, h4, h5, rfl⟩
    refine ⟨g, h1, h2, gSo_rep.symm, fun b hb hba => ?_, ?_, ?_⟩
    · rw [gC_rep h1 h3 ha hb, if_neg hba]
    · rw [gC_rep h1 h3 ha ha, if_pos rfl]; omega
    · rw [gC_rep h1 h3 ha ha, if_pos rfl]; omega
  · rintro ⟨g, h1, h2, h3, h4, h5, h6⟩
    have hk := gC_lt (a := a) hx
    refine ⟨g, h1, h2, gC n x a, hk, by omega, by omega, ?_⟩
    refine (g_ext (n := n) (by rw [gSo_rep]; exact h3) (fun b hb => ?_)).symm
    rw [gC_rep h1 hk ha hb]
    split
    · next e => rw [e]
    · next e => exact h4 b hb e
/-- S grown in all directions -/
def nearS (n r : Nat) (S : Nat → Bool) (x : Nat) : Prop := ∃ g, g < gN n ∧ S g = true ∧ gSo g = gSo x ∧ ∀ b, b < 3 → gC n x b ≤ gC n g b + r ∧ gC n g b ≤ gC n x b + r
theorem three_grow {r : Nat} {R1 R2 R3 : Nat → Bool} (e1 : ∀ x, x < gN n → (R1 x = true ↔ groS n S 0 r (gN n) x)) (e2 : ∀ x, x < gN n → (R2 x = true ↔ groS n R1 1 r (gN n) x)) (e3 : ∀ x, x < gN n → (R3 x = true ↔ groS n R2 2 r (gN n) x)) : ∀ x, x < gN n → (R3 x = true ↔ nearS n r S x) := by
  intro x hx
  rw [e3 x hx, groS_iff hx (by decide)]
  constructor
  · rintro ⟨g2, a1, a2, a3, a4, a5, a6⟩
    obtain ⟨g1, b1, b2, b3, b4, b5, b6⟩ := (groS_iff a1 (by decide)).mp ((e2 g2 a1).mp a2)
    obtain ⟨g, c1, c2, c3, c4, c5, c6⟩ := (groS_iff b1 (by decide)).mp ((e1 g1 b1).mp b2)
    refine ⟨g, c1, c2, by rw [c3, b3, a3], fun b hb => ?_⟩
    have a40 := a4 0 (by decide) (by decide)
    have a41 := a4 1 (by decide) (by decide)
    have b40 := b4 0 (by decide) (by decide)
    have b42 := b4 2 (by decide) (by decide)
    have c41 := c4 1 (by decide) (by decide)
    have c42 := c4 2 (by decide) (by decide)
    obtain rfl | rfl | rfl : b = 0 ∨ b = 1 ∨ b = 2 := by omega
    · omega
    · omega
    · omega
  · rintro ⟨g, c1, c2, c3, c4⟩
    have hx0 := gC_lt (a := 0) hx
    have hx1 := gC_lt (a := 1) hx
    have l1 := gRep_lt (a := 0) c1 hx0
    have l2 := gRep_lt (a := 1) l1 hx1
    have c40 := c4 0 (by decide)
    have c41 := c4 1 (by decide)
    have c42 := c4 2 (by decide)
    have q : ∀ b, b < 3 → gC n (gRep n g 0 (gC n x 0)) b = if b = 0 then gC n x 0 else gC n g b := fun b hb => gC_rep c1 hx0 (by decide) hb
    have q2 : ∀ b, b < 3 → gC n (gRep n (gRep n g 0 (gC n x 0)) 1 (gC n x 1)) b = if b = 1 then gC n x 1 else gC n (gRep n g 0 (gC n x 0)) b := fun b hb => gC_rep l1 hx1 (by decide) hb
    refine ⟨_, l2, (e2 _ l2).mpr ((groS_iff l2 (by decide)).mpr ⟨_, l1, (e1 _ l1).mpr ((groS_iff l1 (by decide)).mpr ⟨g, c1, c2, gSo_rep.symm, fun b hb hb0 => ?_, ?_, ?_⟩), gSo_rep.symm, fun b hb hb1 => ?_, ?_, ?_⟩), by rw [gSo_rep, gSo_rep]; exact c3, fun b hb hb2 => ?_, ?_, ?_⟩
    · rw [q b hb, if_neg hb0]
    · rw [q 0 (by decide), if_pos rfl]; omega
    · rw [q 0 (by decide), if_pos rfl]; omega
    · rw [q2 b hb, if_neg hb1]
    · rw [q2 1 (by decide), if_pos rfl, q 1 (by decide), if_neg (by decide)]; omega
    · rw [q2 1 (by decide), if_pos rfl, q 1 (by decide), if_neg (by decide)]; omega
    · rw [q2 b hb]
      split
      · next e => rw [e]
      · next e => rw [q b hb, if_pos (by omega)]; rw [show b = 0 by omega]
    · rw [q2 2 (by decide), if_neg (by decide), q 2 (by decide), if_neg (by decide)]; omega
    · rw [q2 2 (by decide), if_neg (by decide), q 2 (by decide), if_neg (by decide)]; omega
/-- rows t to t + 2 -/
def wto3 (B n t : Nat) : Nat → Nat → Prop := fun c k => wto B n t (wN n) c k ∨ wto B n (t + 1) (wN n) c k ∨ wto B n (t + 2) (wN n) c k
theorem wto3_row {k : Nat} (hk : k < wN n) (h0 : s ≠ t) (h1 : s ≠ t + 1) (h2 : s ≠ t + 2) : ¬ wto3 B n t (B + 236) (wN n * s + k) := by
  rintro (z | z | z)
  · exact wto_row hk (Nat.le_refl _) h0 z
  · exact wto_row hk (Nat.le_refl _) h1 z
  · exact wto_row hk (Nat.le_refl _) h2 z
theorem c_growM (l : LX B n h) (hd : 12 ≤ d) (hn : n ≤ 52) (hs : s < 19) (ht : t + 2 < 19) (hst : s ≠ t + 1) (b : MB B n h s S) {r : Nat} (hr : r ≤ 100) :
    Vd (cll PP (ev PP (gsF gv) B) d 667 [(2, rf (B + 149)), (0, (s : Int)), (0, (r : Int)), (0, (t : Int))] h) (fun h' => Agr (wto3 B n t) h h' ∧ ∃ R, MB B n h' t R ∧ ∀ x, x < gN n → (R x = true ↔ nearS n r S x)) := by
  refine Vd.into (D := 11) hd (Nat.le_of_ble_eq_true rfl) rfl (fun d hd => ?_)
  have p1 : bop32 96 (t : Int) 1 = ((t + 1 : Nat) : Int) := addNN (y := 1) (by omega)
  have p2 : bop32 96 (t : Int) 2 = ((t + 2 : Nat) : Int) := addNN (y := 2) (by omega)
  refine Ends.eq (b667_0 l (by omega)) ?_
  rw [p1]
  refine Ends.cv l (by decide +kernel) (c_growAlong (a := 0) l hd hn hs (by omega) hst b (by decide) hr) (fun h1 l1 _ _ _ ⟨g1, R1, b1, e1⟩ => ?_)
  refine Ends.eq (b667_10 l1 (by omega)) ?_
  rw [p1, p2]
  refine Ends.cv l1 (by decide +kernel) (c_growAlong (a := 1) l1 hd hn (by omega) (by omega) (by omega) b1 (by decide) hr) (fun h2 l2 _ _ _ ⟨g2, R2, b2, e2⟩ => ?_)
  refine Ends.eq (b667_22 l2 (by omega)) ?_
  rw [p2]
  refine Ends.cv l2 (by decide +kernel) (c_growAlong (a := 2) l2 hd hn (by omega) (by omega) (by omega) b2 (by decide) hr) (fun h3 l3 _ _ _ ⟨g3, R3, b3, e3⟩ => ?_)
  refine Ends.eq (b667_32 l3 (by omega)) ?_
  exact Ends.sm ⟨_, rfl, ((g1.sub (fun c k z => Or.inr (Or.inl z))).tr g2 (fun c k z => Or.inr (Or.inr z))).tr g3 (fun c k z => Or.inl z), R3, b3, three_grow e1 e2 e3⟩
end MGROW2
