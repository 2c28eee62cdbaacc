/-! L3: lines of a sketch: whether two have more than ends in common (plain law) -/
section SEG
variable {u v du dv du' dv' S S' d t w a e T W : Int}
/-- a step in one of eight directions -/
def D8 (x y : Int) : Prop := (x = -1 ∨ x = 0 ∨ x = 1) ∧ (y = -1 ∨ y = 0 ∨ y = 1) ∧ ¬ (x = 0 ∧ y = 0)
/-- u, v from the one's start to the other's: a point in common, by halves of steps, that is no end of both -/
def BadS (u v du dv S du' dv' S' : Int) : Prop := ∃ T W : Int, (0 ≤ T ∧ T ≤ 2 * S) ∧ (0 ≤ W ∧ W ≤ 2 * S') ∧ (2 * u = T * du - W * du' ∧ 2 * v = T * dv - W * dv') ∧ ¬ ((T = 0 ∨ T = 2 * S) ∧ (W = 0 ∨ W = 2 * S'))
theorem cram (h1 : 2 * u = T * du - W * du') (h2 : 2 * v = T * dv - W * dv') : 2 * (u * dv' - v * du') = T * (du * dv' - dv * du') ∧ 2 * (u * dv - v * du) = W * (du * dv' - dv * du') := by
  constructor <;> grind
theorem cram2 : (u * dv' - v * du') * du - (u * dv - v * du) * du' = u * (du * dv' - dv * du') ∧ (u * dv' - v * du') * dv - (u * dv - v * du) * dv' = v * (du * dv' - dv * du') := by
  constructor <;> grind
theorem d8_d (h : D8 du dv) (h' : D8 du' dv') (hd : d = du * dv' - dv * du') (h0 : d ≠ 0) : d = 1 ∨ d = -1 ∨ d = 2 ∨ d = -2 := by
  obtain ⟨a1, a2, a3⟩ := h
  obtain ⟨b1, b2, b3⟩ := h'
  rcases a1 with rfl | rfl | rfl <;> rcases a2 with rfl | rfl | rfl <;> rcases b1 with rfl | rfl | rfl <;> rcases b2 with rfl | rfl | rfl <;> omega
theorem d8_par (h : D8 du dv) (h' : D8 du' dv') (hd : du * dv' - dv * du' = 0) : (du' = du ∧ dv' = dv) ∨ (du' = -du ∧ dv' = -dv) := by
  obtain ⟨a1, a2, a3⟩ := h
  obtain ⟨b1, b2, b3⟩ := h'
  rcases a1 with rfl | rfl | rfl <;> rcases a2 with rfl | rfl | rfl <;> rcases b1 with rfl | rfl | rfl <;> rcases b2 with rfl | rfl | rfl <;> omega
theorem d8_col (h : D8 du dv) (h0 : du * v - dv * u = 0) : ∃ a, u = a * du ∧ v = a * dv := by
  obtain ⟨a1, a2, a3⟩ := h
  rcases a1 with rfl | rfl | rfl <;> rcases a2 with rfl | rfl | rfl
  · exact ⟨-u, by omega, by omega⟩
  · exact ⟨-u, by omega, by omega⟩
  · exact ⟨-u, by omega, by omega⟩
  · exact ⟨-v, by omega, by omega⟩
  · exact absurd ⟨rfl, rfl⟩ a3
  · exact ⟨v, by omega, by omega⟩
  · exact ⟨u, by omega, by omega⟩
  · exact ⟨u, by omega, by omega⟩
  · exact ⟨u, by omega, by omega⟩
/-- half of it -/
theorem d8_even (h : D8 du dv) (h1 : 2 * u = T * du) (h2 : 2 * v = T * dv) : ∃ p, T = 2 * p ∧ u = p * du ∧ v = p * dv := by
  obtain ⟨a1, a2, a3⟩ := h
  rcases a1 with rfl | rfl | rfl <;> rcases a2 with rfl | rfl | rfl
  · exact ⟨-u, by omega, by omega, by omega⟩
  · exact ⟨-u, by omega, by omega, by omega⟩
  · exact ⟨-u, by omega, by omega, by omega⟩
  · exact ⟨-v, by omega, by omega, by omega⟩
  · exact absurd ⟨rfl, rfl⟩ a3
  · exact ⟨v, by omega, by omega, by omega⟩
  · exact ⟨u, by omega, by omega, by omega⟩
  · exact ⟨u, by omega, by omega, by omega⟩
  · exact ⟨u, by omega, by omega, by omega⟩
theorem d8_can (h : D8 du dv) {x y : Int} (h1 : x * du = y * du) (h2 : x * dv = y * dv) : x = y := by
  obtain ⟨a1, a2, a3⟩ := h
  rcases a1 with rfl | rfl | rfl <;> rcases a2 with rfl | rfl | rfl <;> first
    | omega
    | exact absurd ⟨rfl, rfl⟩ a3
/-- along a step, within the length -/
def witZ (t d m : Int) : Prop := (0 < d ∧ 0 ≤ t ∧ t ≤ m * d) ∨ (d ≤ 0 ∧ t ≤ 0 ∧ m * d ≤ t)
/-- lines that are not side by side: from t, w and d -/
theorem bad_of (h : D8 du dv) (h' : D8 du' dv') (hd : d = du * dv' - dv * du') (h0 : d ≠ 0) (ht : t = u * dv' - v * du') (hw : w = u * dv - v * du) : (∃ T W : Int, 2 * t = T * d ∧ 2 * w = W * d ∧ 2 * u = T * du - W * du' ∧ 2 * v = T * dv - W * dv') := by
  obtain ⟨c1, c2⟩ := cram2 (u := u) (v := v) (du := du) (dv := dv) (du' := du') (dv' := dv')
  rw [← hd, ← ht, ← hw] at c1 c2
  rcases d8_d h h' hd h0 with z | z | z | z
  · exact ⟨2 * t, 2 * w, by rw [z]; omega, by rw [z]; omega, by rw [z] at c1; rw [Int.mul_assoc, Int.mul_assoc]; omega, by rw [z] at c2; rw [Int.mul_assoc, Int.mul_assoc]; omega⟩
  · exact ⟨-2 * t, -2 * w, by rw [z]; omega, by rw [z]; omega, by rw [z] at c1; rw [Int.mul_assoc, Int.mul_assoc]; omega, by rw [z] at c2; rw [Int.mul_assoc, Int.mul_assoc]; omega⟩
  · exact ⟨t, w, by rw [z]; omega, by rw [z]; omega, by rw [z] at c1; omega, by rw [z] at c2; omega⟩
  · exact ⟨-t, -w, by rw [z]; omega, by rw [z]; omega, by rw [z] at c1; rw [Int.neg_mul, Int.neg_mul]; omega, by rw [z] at c2; rw [Int.neg_mul, Int.neg_mul]; omega⟩
theorem cr_d (h : D8 du dv) (h' : D8 du' dv') (hd : d = du * dv' - dv * du') (h0 : d ≠ 0) (ht : t = u * dv' - v * du') (hw : w = u * dv - v * du) : BadS u v du dv S du' dv' S' ↔ witZ t d S ∧ witZ w d S' ∧ ¬ ((t = 0 ∨ t = S * d) ∧ (w = 0 ∨ w = S' * d)) := by
  have d4 := d8_d h h' hd h0
  have key : ∀ T W : Int, 2 * t = T * d → 2 * w = W * d → ((0 ≤ T ∧ T ≤ 2 * S) ∧ (0 ≤ W ∧ W ≤ 2 * S') ∧ ¬ ((T = 0 ∨ T = 2 * S) ∧ (W = 0 ∨ W = 2 * S')) ↔ witZ t d S ∧ witZ w d S' ∧ ¬ ((t = 0 ∨ t = S * d) ∧ (w = 0 ∨ w = S' * d))) := fun T W e1 e2 => by
    have A : (0 ≤ T ∧ T ≤ 2 * S) ↔ witZ t d S := by unfold witZ; rcases d4 with z | z | z | z <;> rw [z] at e1 ⊢ <;> omega
    have B : (0 ≤ W ∧ W ≤ 2 * S') ↔ witZ w d S' := by unfold witZ; rcases d4 with z | z | z | z <;> rw [z] at e2 ⊢ <;> omega
    have C : (T = 0 ∨ T = 2 * S) ↔ (t = 0 ∨ t = S * d) := by rcases d4 with z | z | z | z <;> rw [z] at e1 ⊢ <;> omega
    have D : (W = 0 ∨ W = 2 * S') ↔ (w = 0 ∨ w = S' * d) := by rcases d4 with z | z | z | z <;> rw [z] at e2 ⊢ <;> omega
    rw [A, B, C, D]
  constructor
  · rintro ⟨T, W, h1, h2, ⟨h3, h4⟩, h5⟩
    obtain ⟨c1, c2⟩ := cram h3 h4
    rw [← hd, ← ht] at c1
    rw [← hd, ← hw] at c2
    exact (key T W c1 c2).mp ⟨h1, h2, h5⟩
  · intro z
    obtain ⟨T, W, e1, e2, e3, e4⟩ := bad_of h h' hd h0 ht hw
    obtain ⟨h1, h2, h5⟩ := (key T W e1 e2).mpr z
    exact ⟨T, W, h1, h2, ⟨e3, e4⟩, h5⟩
/-- lines along one line -/
theorem par_T (h : D8 du dv) (hu : u = a * du) (hv : v = a * dv) (e1 : du' = e * du) (e2 : dv' = e * dv) : (2 * u = T * du - W * du' ∧ 2 * v = T * dv - W * dv') ↔ T = 2 * a + W * e := by
  rw [hu, hv, e1, e2]
  constructor
  · rintro ⟨h1, h2⟩
    refine d8_can h (y := 2 * a + W * e) ?_ ?_
    · grind
    · grind
  · intro z
    rw [z]
    constructor <;> grind
theorem cr_0 (h : D8 du dv) (hu : u = a * du) (hv : v = a * dv) (e1 : du' = e * du) (e2 : dv' = e * dv) (he : e = 1 ∨ e = -1) (hS : 1 ≤ S) (hS' : 1 ≤ S') : BadS u v du dv S du' dv' S' ↔ max 0 (min a (a + e * S')) < min S (max a (a + e * S')) := by
  constructor
  · rintro ⟨T, W, h1, h2, h3, h5⟩
    have z := (par_T h hu hv e1 e2).mp h3
    rcases he with rfl | rfl <;> omega
  · intro z
    refine ⟨2 * max 0 (min a (a + e * S')) + 1, (2 * max 0 (min a (a + e * S')) + 1 - 2 * a) * e, ?_, ?_, (par_T h hu hv e1 e2).mpr ?_, ?_⟩
    · omega
    · rcases he with rfl | rfl <;> omega
    · rcases he with rfl | rfl <;> omega
    · rcases he with rfl | rfl <;> omega
/-- a place inside a line, from its start -/
def inS (u v du dv S : Int) : Prop := ∃ p, (0 < p ∧ p < S) ∧ u = p * du ∧ v = p * dv
/-- both ends alike -/
def samS (u v du dv S du' dv' S' : Int) : Prop := ((u = 0 ∧ v = 0) ∨ (u = S * du ∧ v = S * dv)) ∧ ((u + S' * du' = 0 ∧ v + S' * dv' = 0) ∨ (u + S' * du' = S * du ∧ v + S' * dv' = S * dv))
theorem d8_pos (h : D8 du dv) (h' : D8 du' dv') (hS : 1 ≤ S) (hS' : 1 ≤ S') (e1 : S' * du' = S * du) (e2 : S' * dv' = S * dv) : S' = S ∧ du' = du ∧ dv' = dv := by
  obtain ⟨a1, a2, a3⟩ := h
  obtain ⟨b1, b2, b3⟩ := h'
  rcases a1 with rfl | rfl | rfl <;> rcases a2 with rfl | rfl | rfl <;> rcases b1 with rfl | rfl | rfl <;> rcases b2 with rfl | rfl | rfl <;> omega
theorem d8_neg (h : D8 du dv) : D8 (-du) (-dv) := by
  obtain ⟨a1, a2, a3⟩ := h
  exact ⟨by omega, by omega, fun z => a3 ⟨by omega, by omega⟩⟩
set_option maxHeartbeats 1000000 in
theorem meet_iff (h : D8 du dv) (h' : D8 du' dv') (hS : 1 ≤ S) (hS' : 1 ≤ S') (hd : d = du * dv' - dv * du') (ht : t = u * dv' - v * du') (hw : w = u * dv - v * du) : BadS u v du dv S du' dv' S' ↔ inS u v du dv S ∨ inS (u + S' * du') (v + S' * dv') du dv S ∨ inS (-u) (-v) du' dv' S' ∨ inS (S * du - u) (S * dv - v) du' dv' S' ∨ samS u v du dv S du' dv' S' ∨ (w * (w - S' * d) < 0 ∧ t * (t - S * d) < 0) := by
  constructor
  · rintro ⟨T, W, h1, h2, ⟨h3, h4⟩, h5⟩
    by_cases w0 : W = 0
    · rw [w0, Int.zero_mul, Int.sub_zero] at h3 h4
      obtain ⟨p, p1, p2, p3⟩ := d8_even h h3 h4
      exact Or.inl ⟨p, by omega, p2, p3⟩
    by_cases w1 : W = 2 * S'
    · obtain ⟨p, p1, p2, p3⟩ := d8_even (u := u + S' * du') (v := v + S' * dv') h (T := T) (by rw [w1, Int.mul_assoc] at h3; omega) (by rw [w1, Int.mul_assoc] at h4; omega)
      exact Or.inr (Or.inl ⟨p, by omega, p2, p3⟩)
    by_cases t0 : T = 0
    · rw [t0, Int.zero_mul, Int.zero_sub] at h3 h4
      obtain ⟨p, p1, p2, p3⟩ := d8_even (u := -u) (v := -v) (T := W) h' (by omega) (by omega)
      exact Or.inr (Or.inr (Or.inl ⟨p, by omega, p2, p3⟩))
    by_cases t1 : T = 2 * S
    · obtain ⟨p, p1, p2, p3⟩ := d8_even (u := S * du - u) (v := S * dv - v) (T := W) h' (by rw [t1, Int.mul_assoc] at h3; omega) (by rw [t1, Int.mul_assoc] at h4; omega)
      exact Or.inr (Or.inr (Or.inr (Or.inl ⟨p, by omega, p2, p3⟩)))
    by_cases d0 : d = 0
    · -- along one line
      obtain ⟨e, e1, e2, he⟩ : ∃ e, du' = e * du ∧ dv' = e * dv ∧ (e = 1 ∨ e = -1) := by
        rcases d8_par h h' (by omega) with ⟨z1, z2⟩ | ⟨z1, z2⟩
        · exact ⟨1, by omega, by omega, Or.inl rfl⟩
        · exact ⟨-1, by omega, by omega, Or.inr rfl⟩
      obtain ⟨a, a1, a2, a3⟩ := d8_even (u := u) (v := v) (T := T - W * e) h (by rw [h3, e1]; grind) (by rw [h4, e2]; grind)
      have inn : ∀ {x y : Int} (p : Int), x = p * du → y = p * dv → 0 < p → p < S → inS x y du dv S := fun p x1 x2 x3 x4 => ⟨p, ⟨x3, x4⟩, x1, x2⟩
      rcases he with rfl | rfl
      · rw [Int.one_mul] at e1 e2
        rw [e1, e2]
        by_cases q1 : 0 < a ∧ a < S
        · exact Or.inl (inn a a2 a3 q1.1 q1.2)
        by_cases q2 : 0 < a + S' ∧ a + S' < S
        · exact Or.inr (Or.inl (inn (a + S') (by rw [a2]; grind) (by rw [a3]; grind) q2.1 q2.2))
        by_cases q3 : a < 0
        · exact Or.inr (Or.inr (Or.inl ⟨-a, ⟨by omega, by omega⟩, by rw [a2]; grind, by rw [a3]; grind⟩))
        have q4 : a = 0 := by omega
        rw [q4, Int.zero_mul] at a2 a3
        by_cases q5 : S < S'
        · exact Or.inr (Or.inr (Or.inr (Or.inl ⟨S, ⟨by omega, q5⟩, by rw [a2]; omega, by rw [a3]; omega⟩)))
        · have q6 : S' = S := by omega
          exact Or.inr (Or.inr (Or.inr (Or.inr (Or.inl ⟨Or.inl ⟨a2, a3⟩, Or.inr ⟨by rw [a2, q6]; omega, by rw [a3, q6]; omega⟩⟩))))
      · have e1 : du' = -du := by omega
        have e2 : dv' = -dv := by omega
        rw [e1, e2]
        by_cases q1 : 0 < a ∧ a < S
        · exact Or.inl (inn a a2 a3 q1.1 q1.2)
        by_cases q2 : 0 < a - S' ∧ a - S' < S
        · exact Or.inr (Or.inl (inn (a - S') (by rw [a2]; grind) (by rw [a3]; grind) q2.1 q2.2))
        by_cases q3 : S < a
        · exact Or.inr (Or.inr (Or.inr (Or.inl ⟨a - S, ⟨by omega, by omega⟩, by rw [a2]; grind, by rw [a3]; grind⟩)))
        have q4 : a = S := by omega
        rw [q4] at a2 a3
        by_cases q5 : S < S'
        · exact Or.inr (Or.inr (Or.inl ⟨S, ⟨by omega, q5⟩, by rw [a2]; grind, by rw [a3]; grind⟩))
        · have q6 : S' = S := by omega
          exact Or.inr (Or.inr (Or.inr (Or.inr (Or.inl ⟨Or.inr ⟨a2, a3⟩, Or.inl ⟨by rw [a2, q6]; grind, by rw [a3, q6]; grind⟩⟩))))
    · obtain ⟨c1, c2⟩ := cram h3 h4
      rw [← hd, ← ht] at c1
      rw [← hd, ← hw] at c2
      have neg : ∀ {x y Z : Int}, 2 * x = y * d → 0 < y → y < 2 * Z → x * (x - Z * d) < 0 := fun {x y Z} q1 q2 q3 => by
        rcases d8_d h h' hd d0 with z | z | z | z <;> rw [z] at q1 ⊢
        · exact Int.mul_neg_of_pos_of_neg (by omega) (by omega)
        · exact Int.mul_neg_of_neg_of_pos (by omega) (by omega)
        · exact Int.mul_neg_of_pos_of_neg (by omega) (by omega)
        · exact Int.mul_neg_of_neg_of_pos (by omega) (by omega)
      exact Or.inr (Or.inr (Or.inr (Or.inr (Or.inr ⟨neg c2 (by omega) (by omega), neg c1 (by omega) (by omega)⟩))))
  · rintro (⟨p, p0, p1, p2⟩ | ⟨p, p0, p1, p2⟩ | ⟨p, p0, p1, p2⟩ | ⟨p, p0, p1, p2⟩ | ⟨z1, z2⟩ | ⟨z1, z2⟩)
    · exact ⟨2 * p, 0, by omega, by omega, ⟨by rw [p1, Int.mul_assoc]; omega, by rw [p2, Int.mul_assoc]; omega⟩, by omega⟩
    · exact ⟨2 * p, 2 * S', by omega, by omega, ⟨by rw [Int.mul_assoc, Int.mul_assoc]; omega, by rw [Int.mul_assoc, Int.mul_assoc]; omega⟩, by omega⟩
    · exact ⟨0, 2 * p, by omega, by omega, ⟨by rw [Int.mul_assoc]; omega, by rw [Int.mul_assoc]; omega⟩, by omega⟩
    · exact ⟨2 * S, 2 * p, by omega, by omega, ⟨by rw [Int.mul_assoc, Int.mul_assoc]; omega, by rw [Int.mul_assoc, Int.mul_assoc]; omega⟩, by omega⟩
    · rcases z1 with ⟨y1, y2⟩ | ⟨y1, y2⟩ <;> rcases z2 with ⟨y3, y4⟩ | ⟨y3, y4⟩
      · obtain ⟨b1, b2, b3⟩ := h'
        have : du' = 0 := by rcases b1 with z | z | z <;> rw [z] at y3 <;> omega
        have : dv' = 0 := by rcases b2 with z | z | z <;> rw [z] at y4 <;> omega
        exact absurd ⟨by assumption, by assumption⟩ b3
      · obtain ⟨c1, c2, c3⟩ := d8_pos h h' hS hS' (by omega) (by omega)
        exact ⟨1, 1, by omega, by omega, ⟨by rw [c2]; omega, by rw [c3]; omega⟩, by omega⟩
      · obtain ⟨c1, c2, c3⟩ := d8_pos (d8_neg h) h' hS hS' (by rw [Int.mul_neg]; omega) (by rw [Int.mul_neg]; omega)
        exact ⟨1, 2 * S - 1, by omega, by omega, ⟨by rw [y1, c2]; grind, by rw [y2, c3]; grind⟩, by omega⟩
      · obtain ⟨b1, b2, b3⟩ := h'
        have : du' = 0 := by rcases b1 with z | z | z <;> rw [z] at y3 <;> omega
        have : dv' = 0 := by rcases b2 with z | z | z <;> rw [z] at y4 <;> omega
        exact absurd ⟨by assumption, by assumption⟩ b3
    · have d0 : d ≠ 0 := fun z => by
        rw [z, Int.mul_zero, Int.sub_zero] at z1
        rw [← Int.natAbs_mul_self] at z1
        exact absurd z1 (Int.not_lt.mpr (Int.natCast_nonneg _))
      refine (cr_d h h' hd d0 ht hw).mpr ?_
      have str : ∀ {x Z : Int}, 1 ≤ Z → x * (x - Z * d) < 0 → witZ x d Z ∧ ¬ (x = 0 ∨ x = Z * d) := fun {x Z} hZ q => by
        have x0 : x ≠ 0 := fun z => by rw [z, Int.zero_mul] at q; omega
        have x1 : x ≠ Z * d := fun z => by rw [show x - Z * d = 0 by omega, Int.mul_zero] at q; omega
        have sg : (0 < x ∧ x < Z * d) ∨ (x < 0 ∧ Z * d < x) := by
          rcases (by omega : (0 < x ∧ Z * d < x) ∨ (0 < x ∧ x < Z * d) ∨ (x < 0 ∧ Z * d < x) ∨ (x < 0 ∧ x < Z * d)) with z | z | z | z
          · have := Int.mul_pos z.1 (show 0 < x - Z * d by omega); omega
          · exact Or.inl z
          · exact Or.inr z
          · have := Int.mul_pos_of_neg_of_neg z.1 (show x - Z * d < 0 by omega); omega
        refine ⟨?_, fun z => z.elim x0 x1⟩
        unfold witZ
        rcases d8_d h h' hd d0 with z | z | z | z <;> rw [z] at sg ⊢ <;> omega
      exact ⟨(str hS z2).1, (str hS' z1).1, fun y => (str hS z2).2 y.1⟩
end SEG
