/-! L3: shrinking, said by grains -/
section ERN
variable {n : Nat} {S : Nat → Bool} {M M' : Nat → Nat → Nat → Nat → Bool}
theorem s1_iff {f : Nat → Bool} {x : Nat} (hx : x < n) : (f x && ((decide (0 < x) && f (x - 1)) && (decide (x + 1 < n) && f (x + 1)))) = true ↔ (0 < x ∧ x + 1 < n) ∧ ∀ x', x' ≤ x + 1 → x ≤ x' + 1 → f x' = true := by
  simp only [Bool.and_eq_true, decide_eq_true_eq]
  constructor
  · rintro ⟨a, ⟨b, c⟩, d, e⟩
    refine ⟨⟨b, d⟩, fun x' h1 h2 => ?_⟩
    have : x' = x ∨ x' = x - 1 ∨ x' = x + 1 := by omega
    rcases this with rfl | rfl | rfl
    · exact a
    · exact c
    · exact e
  · rintro ⟨⟨a, b⟩, w⟩
    exact ⟨w x (by omega) (by omega), ⟨a, w (x - 1) (by omega) (by omega)⟩, b, w (x + 1) (by omega) (by omega)⟩
theorem er3_iff {t z y x : Nat} (hz : z < n) (hy : y < n) (hx : x < n) : er3 n M t z y x = true ↔ ((0 < z ∧ z + 1 < n) ∧ (0 < y ∧ y + 1 < n) ∧ 0 < x ∧ x + 1 < n) ∧ ∀ z' y' x', z' ≤ z + 1 → z ≤ z' + 1 → y' ≤ y + 1 → y ≤ y' + 1 → x' ≤ x + 1 → x ≤ x' + 1 → M t z' y' x' = true := by
  unfold er3 sz1
  rw [s1_iff (f := fun z => sy1 n (sx1 n M) t z y x) hz]
  have hy_ : ∀ z', (sy1 n (sx1 n M) t z' y x = true ↔ (0 < y ∧ y + 1 < n) ∧ ∀ y', y' ≤ y + 1 → y ≤ y' + 1 → sx1 n M t z' y' x = true) := fun z' => by
    unfold sy1
    exact s1_iff (f := fun y => sx1 n M t z' y x) hy
  have hx_ : ∀ z' y', (sx1 n M t z' y' x = true ↔ (0 < x ∧ x + 1 < n) ∧ ∀ x', x' ≤ x + 1 → x ≤ x' + 1 → M t z' y' x' = true) := fun z' y' => by
    unfold sx1
    exact s1_iff (f := fun x => M t z' y' x) hx
  constructor
  · rintro ⟨hz0, w⟩
    have wz := (hy_ z).mp (w z (by omega) (by omega))
    have wx := (hx_ z y).mp (wz.2 y (by omega) (by omega))
    exact ⟨⟨hz0, wz.1, wx.1⟩, fun z' y' x' a b c d e f => ((hx_ z' y').mp (((hy_ z').mp (w z' a b)).2 y' c d)).2 x' e f⟩
  · rintro ⟨⟨hz0, hy0, hx0⟩, w⟩
    exact ⟨hz0, fun z' a b => (hy_ z').mpr ⟨hy0, fun y' c d => (hx_ z' y').mpr ⟨hx0, fun x' e f => w z' y' x' a b c d e f⟩⟩⟩
/-- what is left of S when k layers are taken off -/
def shN (n k : Nat) (S : Nat → Bool) (x : Nat) : Prop := ¬ nearS n k (fun g => !S g) x ∧ ∀ a, a < 3 → k ≤ gC n x a ∧ gC n x a + k < n
theorem gC3 {k g : Nat} (h0 : k ≤ gX n g ∧ gX n g + k < n) (h1 : k ≤ gY n g ∧ gY n g + k < n) (h2 : k ≤ gZ n g ∧ gZ n g + k < n) : ∀ a, a < 3 → k ≤ gC n g a ∧ gC n g a + k < n := fun a ha => by
  have : a = 0 ∨ a = 1 ∨ a = 2 := by omega
  rcases this with rfl | rfl | rfl
  · exact h0
  · exact h1
  · exact h2
theorem itr_er : ∀ k {t z y x : Nat}, t < 24 → z < n → y < n → x < n → (itr (er3 n) k (fun t z y x => S (gI n x y z t)) t z y x = true ↔ shN n k S (gI n x y z t))
  | 0, t, z, y, x, ht, hz, hy, hx => by
    have hg := gI_lt hx hy hz ht
    show S (gI n x y z t) = true ↔ _
    constructor
    · intro e
      refine ⟨?_, gC3 (by rw [gX_I hx ht]; exact ⟨Nat.zero_le _, hx⟩) (by rw [gY_I hx hy ht]; exact ⟨Nat.zero_le _, hy⟩) (by rw [gZ_I hx hy ht]; exact ⟨Nat.zero_le _, hz⟩)⟩
      rintro ⟨g, hg', e2, es, eb⟩
      have b0 := eb 0 (by decide)
      have b1 := eb 1 (by decide)
      have b2 := eb 2 (by decide)
      have e0 : gX n (gI n x y z t) = gX n g := by have : gX n (gI n x y z t) ≤ gX n g + 0 ∧ gX n g ≤ gX n (gI n x y z t) + 0 := b0; omega
      have e1 : gY n (gI n x y z t) = gY n g := by have : gY n (gI n x y z t) ≤ gY n g + 0 ∧ gY n g ≤ gY n (gI n x y z t) + 0 := b1; omega
      have e3 : gZ n (gI n x y z t) = gZ n g := by have : gZ n (gI n x y z t) ≤ gZ n g + 0 ∧ gZ n g ≤ gZ n (gI n x y z t) + 0 := b2; omega
      rw [gX_I hx ht] at e0
      rw [gY_I hx hy ht] at e1
      rw [gZ_I hx hy ht] at e3
      rw [gSo_I ht] at es
      have eg : gI n x y z t = g := by rw [e0, e1, e3, ← es]; exact gI_g
      rw [← eg] at e2
      have e2 : (!S (gI n x y z t)) = true := e2
      rw [e] at e2
      exact absurd e2 (by decide)
    · rintro ⟨w, _⟩
      cases e : S (gI n x y z t)
      · exact absurd ⟨gI n x y z t, hg, by show (!S (gI n x y z t)) = true; rw [e]; rfl, rfl, fun b _ => ⟨by omega, by omega⟩⟩ w
      · rfl
  | k + 1, t, z, y, x, ht, hz, hy, hx => by
    have hg := gI_lt hx hy hz ht
    have e0 := gX_I (n := n) (y := y) (z := z) hx ht
    have e1 := gY_I (n := n) (z := z) hx hy ht
    have e2 := gZ_I (n := n) (z := z) hx hy ht
    show er3 n (itr (er3 n) k (fun t z y x => S (gI n x y z t))) t z y x = true ↔ _
    rw [er3_iff hz hy hx]
    constructor
    · rintro ⟨⟨hz0, hy0, hx0⟩, w⟩
      have wn : ∀ z' y' x', z' ≤ z + 1 → z ≤ z' + 1 → y' ≤ y + 1 → y ≤ y' + 1 → x' ≤ x + 1 → x ≤ x' + 1 → shN n k S (gI n x' y' z' t) := fun z' y' x' a b c d e f => (itr_er k ht (by omega) (by omega) (by omega)).mp (w z' y' x' a b c d e f)
      constructor
      · rintro ⟨g, hg', es, et, eb⟩
        obtain ⟨_, g1, g2, g3, g4⟩ := g_lt hg'
        have b0 : gX n (gI n x y z t) ≤ gX n g + (k + 1) ∧ gX n g ≤ gX n (gI n x y z t) + (k + 1) := eb 0 (by decide)
        have b1 : gY n (gI n x y z t) ≤ gY n g + (k + 1) ∧ gY n g ≤ gY n (gI n x y z t) + (k + 1) := eb 1 (by decide)
        have b2 : gZ n (gI n x y z t) ≤ gZ n g + (k + 1) ∧ gZ n g ≤ gZ n (gI n x y z t) + (k + 1) := eb 2 (by decide)
        rw [e0] at b0
        rw [e1] at b1
        rw [e2] at b2
        rw [gSo_I ht] at et
        -- a step towards g
        have stp : ∀ c c' : Nat, c ≤ c' + (k + 1) → c' ≤ c + (k + 1) → c' < n → ∃ m, m ≤ c + 1 ∧ c ≤ m + 1 ∧ m ≤ c' + k ∧ c' ≤ m + k ∧ (m = c ∨ m = c + 1 ∨ m + 1 = c) := fun c c' h1 h2 h3 => by
          by_cases a : c < c'
          · exact ⟨c + 1, by omega, by omega, by omega, by omega, Or.inr (Or.inl rfl)⟩
          · by_cases b : c' < c
            · exact ⟨c - 1, by omega, by omega, by omega, by omega, Or.inr (Or.inr (by omega))⟩
            · exact ⟨c, by omega, by omega, by omega, by omega, Or.inl rfl⟩
        obtain ⟨x', p1, p2, p3, p4, _⟩ := stp x (gX n g) b0.1 b0.2 g1
        obtain ⟨y', q1, q2, q3, q4, _⟩ := stp y (gY n g) b1.1 b1.2 g2
        obtain ⟨z', r1, r2, r3, r4, _⟩ := stp z (gZ n g) b2.1 b2.2 g3
        refine (wn z' y' x' r1 r2 q1 q2 p1 p2).1 ⟨g, hg', es, by rw [gSo_I ht]; exact et, ?_⟩
        intro b hb
        have : b = 0 ∨ b = 1 ∨ b = 2 := by omega
        rcases this with rfl | rfl | rfl
        · show gX n _ ≤ gX n g + k ∧ gX n g ≤ gX n _ + k
          rw [gX_I (by omega) ht]; exact ⟨p3, p4⟩
        · show gY n _ ≤ gY n g + k ∧ gY n g ≤ gY n _ + k
          rw [gY_I (by omega) (by omega) ht]; exact ⟨q3, q4⟩
        · show gZ n _ ≤ gZ n g + k ∧ gZ n g ≤ gZ n _ + k
          rw [gZ_I (by omega) (by omega) ht]; exact ⟨r3, r4⟩
      · have w1 := (wn (z - 1) (y - 1) (x - 1) (by omega) (by omega) (by omega) (by omega) (by omega) (by omega)).2
        have w2 := (wn (z + 1) (y + 1) (x + 1) (by omega) (by omega) (by omega) (by omega) (by omega) (by omega)).2
        have a0 : k ≤ gX n (gI n (x - 1) (y - 1) (z - 1) t) ∧ _ := w1 0 (by decide)
        have a1 : k ≤ gY n (gI n (x - 1) (y - 1) (z - 1) t) ∧ _ := w1 1 (by decide)
        have a2 : k ≤ gZ n (gI n (x - 1) (y - 1) (z - 1) t) ∧ _ := w1 2 (by decide)
        have c0 : _ ∧ gX n (gI n (x + 1) (y + 1) (z + 1) t) + k < n := w2 0 (by decide)
        have c1 : _ ∧ gY n (gI n (x + 1) (y + 1) (z + 1) t) + k < n := w2 1 (by decide)
        have c2 : _ ∧ gZ n (gI n (x + 1) (y + 1) (z + 1) t) + k < n := w2 2 (by decide)
        have a0 := a0.1
        have a1 := a1.1
        have a2 := a2.1
        have c0 := c0.2
        have c1 := c1.2
        have c2 := c2.2
        rw [gX_I (by omega) ht] at a0 c0
        rw [gY_I (by omega) (by omega) ht] at a1 c1
        rw [gZ_I (by omega) (by omega) ht] at a2 c2
        exact gC3 (by rw [e0]; omega) (by rw [e1]; omega) (by rw [e2]; omega)
    · rintro ⟨w, bd⟩
      have b0 : k + 1 ≤ gX n (gI n x y z t) ∧ gX n (gI n x y z t) + (k + 1) < n := bd 0 (by decide)
      have b1 : k + 1 ≤ gY n (gI n x y z t) ∧ gY n (gI n x y z t) + (k + 1) < n := bd 1 (by decide)
      have b2 : k + 1 ≤ gZ n (gI n x y z t) ∧ gZ n (gI n x y z t) + (k + 1) < n := bd 2 (by decide)
      rw [e0] at b0
      rw [e1] at b1
      rw [e2] at b2
      refine ⟨⟨by omega, by omega, by omega⟩, fun z' y' x' p1 p2 q1 q2 r1 r2 => ?_⟩
      rw [itr_er k ht (by omega) (by omega) (by omega)]
      refine ⟨?_, gC3 (by rw [gX_I (by omega) ht]; omega) (by rw [gY_I (by omega) (by omega) ht]; omega) (by rw [gZ_I (by omega) (by omega) ht]; omega)⟩
      rintro ⟨g, hg', es, et, eb⟩
      have c0 : gX n (gI n x' y' z' t) ≤ gX n g + k ∧ gX n g ≤ gX n (gI n x' y' z' t) + k := eb 0 (by decide)
      have c1 : gY n (gI n x' y' z' t) ≤ gY n g + k ∧ gY n g ≤ gY n (gI n x' y' z' t) + k := eb 1 (by decide)
      have c2 : gZ n (gI n x' y' z' t) ≤ gZ n g + k ∧ gZ n g ≤ gZ n (gI n x' y' z' t) + k := eb 2 (by decide)
      rw [gX_I (by omega) ht] at c0
      rw [gY_I (by omega) (by omega) ht] at c1
      rw [gZ_I (by omega) (by omega) ht] at c2
      rw [gSo_I ht] at et
      refine w ⟨g, hg', es, by rw [gSo_I ht]; exact et, fun b hb => ?_⟩
      have : b = 0 ∨ b = 1 ∨ b = 2 := by omega
      rcases this with rfl | rfl | rfl
      · show gX n _ ≤ gX n g + (k + 1) ∧ gX n g ≤ gX n _ + (k + 1)
        rw [e0]; omega
      · show gY n _ ≤ gY n g + (k + 1) ∧ gY n g ≤ gY n _ + (k + 1)
        rw [e1]; omega
      · show gZ n _ ≤ gZ n g + (k + 1) ∧ gZ n g ≤ gZ n _ + (k + 1)
        rw [e2]; omega
/-- the same as a picture -/
noncomputable def shK (n k : Nat) (S : Nat → Bool) (x : Nat) : Bool := @decide (shN n k S x) (Classical.propDecidable _)
theorem shK_iff {k x : Nat} : shK n k S x = true ↔ shN n k S x := by unfold shK; exact @decide_eq_true_iff _ (Classical.propDecidable _)
end ERN
section SHKC
variable {gv : Nat → Int} {B n d a : Nat} {h : AH} {S : Nat → Bool}
theorem c_shrinkK {b : Nat} (l : LX B n h) (hd : 12 ≤ d) (hn4 : 4 ≤ n) (hn : n ≤ 52) (sa : SG n h a S) (hB : B ≤ a) (hb : b ≤ 1000) :
    Vd (cll PP (ev PP (gsF gv) B) d 356 [(2, rf (B + 51)), (2, rf a), (0, (b : Int))] h) (fun h' => Fr (fun c => c = a ∨ c = B + 52) h h' ∧ SG n h' a (shK n b S)) := by
  obtain ⟨h', e, f, s⟩ := c_shrink (gv := gv) l hd hn4 hn sa hB hb
  refine ⟨h', e, f, SG.of (by omega) s (fun t z y x ht hz hy hx => ?_)⟩
  rw [onK_at hz hy]
  exact Bool.eq_iff_iff.mpr ((itr_er b ht hz hy hx).trans shK_iff.symm)
end SHKC
