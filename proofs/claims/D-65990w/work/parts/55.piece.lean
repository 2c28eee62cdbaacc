/-! L3: the model takes pieces -/
section PIECE
variable {gv : Nat → Int} {B n d : Nat} {h : AH} {S0 R D P : Nat → Bool}
theorem c_lowest (l : LX B n h) (hd : 10 ≤ d) {v : Int} {k : Nat} (lk : Low v k) :
    Vt 0 (cll PP (ev PP (gsF gv) B) d 735 [(1, v)] h) (fun r h' => h' = h ∧ r = (k : Int)) := by
  have hk := lk.1
  refine Vt.into (D := 9) hd (Nat.le_of_ble_eq_true rfl) rfl (fun d hd => Ends.eq (b735_0 (by decide) l hd) ?_)
  refine lp (k) (fun i L q => L = [(1, v), ((9, 0)), (0, ((i : Int)))] ∧ LX B n q ∧ i ≤ k ∧ q = h) ?_ ?_ (0) ⟨rfl, (by (repeat' first | assumption | refine LX.setF _ _ ?_ (by decide +kernel) | refine LX.setS ?_ rfl | refine LX.setA ?_ (by assumption))), by omega, ?_⟩
  · rintro i _ q hi ⟨rfl, lq, hiN, rfl⟩ ihi
    refine Ends.eq (b735_2 (n := n) (by first | assumption | omega) (by (repeat' first | assumption | refine LX.setF _ _ ?_ (by decide +kernel) | refine LX.setS ?_ rfl | refine LX.setA ?_ (by first | assumption | omega))) (by first | assumption | omega)) ?_
    rw [bit_is _ (by omega), lk.2.2 i hi]
    refine Ends.b1 (fun z => absurd rfl z) (fun _ => ?_)
    rw [w_succ (by omega)]
    refine ihi _ _ ⟨rfl, (by (repeat' first | assumption | refine LX.setF _ _ ?_ (by decide +kernel) | refine LX.setS ?_ rfl | refine LX.setA ?_ (by assumption))), by omega, ?_⟩
    rfl
  · rintro i _ q hi ⟨rfl, lq, hiN, rfl⟩
    obtain rfl : k = i := by omega
    refine Ends.eq (b735_2 (n := n) (by first | assumption | omega) (by (repeat' first | assumption | refine LX.setF _ _ ?_ (by decide +kernel) | refine LX.setS ?_ rfl | refine LX.setA ?_ (by first | assumption | omega))) (by first | assumption | omega)) ?_
    rw [bit_is _ (by omega), lk.2.1]
    exact Ends.b1 (fun _ => Ends.sm ⟨_, _, rfl, rfl, rfl⟩) (fun z => absurd z (by decide))
  · rfl
/-- a piece is being taken: R is left, D is to be looked at, P is taken; X: what isn't looked at yet -/
def TPI (n : Nat) (S0 : Nat → Bool) (g : Nat) (R D P : Nat → Bool) (X : Nat → Nat → Prop) (lo hi many : Nat) (bd : Int) : Prop :=
  (∀ x, x < gN n → (S0 x = true ↔ R x = true ∨ D x = true ∨ P x = true) ∧ ¬ (R x = true ∧ D x = true) ∧ ¬ (R x = true ∧ P x = true) ∧ ¬ (D x = true ∧ P x = true) ∧ (D x = true ∨ P x = true → Rch n S0 g x ∧ lo ≤ x / 64 ∧ x / 64 ≤ hi)) ∧ (D g = true ∨ P g = true) ∧
  (∀ x x' f, x < gN n → x' < gN n → f < 4 → P x = true → ¬ X x f → nbr n x f = (x' : Int) → R x' = false) ∧ (bd = 0 ∨ bd = 1) ∧ (bd = 1 ↔ ∃ x, x < gN n ∧ P x = true ∧ ¬ X x 0 ∧ nbr n x 0 = -1) ∧ many = cntN P (gN n) ∧ lo ≤ hi ∧ hi < wN n
theorem TPI.take {g lo hi many n0 : Nat} {bd : Int} (T : TPI n S0 g R D P (fun _ _ => False) lo hi many bd) (h0 : n0 < gN n) (hD : D n0 = true) : TPI n S0 g R (fun x => D x && !decide (x = n0)) (fun x => P x || decide (x = n0)) (fun x _ => x = n0) lo hi (many + 1) bd := by
  obtain ⟨t1, t2, t3, t4, t5, t6, t7⟩ := T
  refine ⟨fun x hx => ?_, ?_, ?_, t4, ?_, ?_, t7⟩
  · have := t1 x hx
    by_cases e : x = n0
    · subst e; simp [hD] at this ⊢; grind
    · simp only [e, decide_false, Bool.not_false, Bool.and_true, Bool.or_false]; exact this
  · by_cases e : g = n0
    · subst e; simp
    · simp [e]; exact t2
  · intro x x' f h1 h2 h3 h4 h5 h6
    simp [h5] at h4
    exact t3 x x' f h1 h2 h3 h4 (fun q => q) h6
  · rw [t5]
    constructor
    · rintro ⟨x, h1, h2, _, h4⟩
      refine ⟨x, h1, by simp [h2], fun e => ?_, h4⟩
      subst e
      exact (t1 x h1).2.2.2.1 ⟨hD, h2⟩
    · rintro ⟨x, h1, h2, h3, h4⟩
      simp [h3] at h2
      exact ⟨x, h1, h2, fun q => q, h4⟩
  · have : P n0 = false := by
      cases e : P n0
      · rfl
      · exact absurd ⟨hD, e⟩ (t1 n0 h0).2.2.2.1
    rw [cntN_set this, if_pos h0, t6]
theorem TPI.out {g lo hi many n0 f : Nat} {bd : Int} (T : TPI n S0 g R D P (fun x f' => x = n0 ∧ f ≤ f') lo hi many bd) (h0 : n0 < gN n) (hP : P n0 = true) (e : nbr n n0 f = -1) : TPI n S0 g R D P (fun x f' => x = n0 ∧ f + 1 ≤ f') lo hi many (if f = 0 then 1 else bd) := by
  obtain ⟨t1, t2, t3, t4, t5, t6, t7⟩ := T
  refine ⟨t1, t2, fun x x' f' h1 h2 h3 h4 h5 h6 => ?_, by split <;> simp [t4], ?_, t6, t7⟩
  · by_cases q : x = n0 ∧ f' = f
    · obtain ⟨rfl, rfl⟩ := q; rw [e] at h6; omega
    · exact t3 x x' f' h1 h2 h3 h4 (fun z => h5 ⟨z.1, by have := z.2; have : ¬ (x = n0 ∧ f' = f) := q; omega⟩) h6
  · by_cases q : f = 0
    · subst q
      simp only [if_true, true_iff]
      exact ⟨n0, h0, hP, by omega, e⟩
    · simp only [q, if_false]
      rw [t5]
      constructor
      · rintro ⟨x, h1, h2, h3, h4⟩; exact ⟨x, h1, h2, fun z => h3 ⟨z.1, by omega⟩, h4⟩
      · rintro ⟨x, h1, h2, h3, h4⟩; exact ⟨x, h1, h2, fun z => by omega, h4⟩
theorem TPI.non {g lo hi many n0 f b : Nat} {bd : Int} (T : TPI n S0 g R D P (fun x f' => x = n0 ∧ f ≤ f') lo hi many bd) (e : nbr n n0 f = (b : Int)) (hR : R b = false) : TPI n S0 g R D P (fun x f' => x = n0 ∧ f + 1 ≤ f') lo hi many bd := by
  obtain ⟨t1, t2, t3, t4, t5, t6, t7⟩ := T
  refine ⟨t1, t2, fun x x' f' h1 h2 h3 h4 h5 h6 => ?_, t4, ?_, t6, t7⟩
  · by_cases q : x = n0 ∧ f' = f
    · obtain ⟨rfl, rfl⟩ := q
      rw [e] at h6
      obtain rfl : b = x' := by omega
      exact hR
    · exact t3 x x' f' h1 h2 h3 h4 (fun z => h5 ⟨z.1, by have := z.2; have : ¬ (x = n0 ∧ f' = f) := q; omega⟩) h6
  · rw [t5]
    constructor
    · rintro ⟨x, h1, h2, h3, h4⟩; exact ⟨x, h1, h2, fun z => h3 ⟨z.1, by omega⟩, h4⟩
    · rintro ⟨x, h1, h2, h3, h4⟩
      refine ⟨x, h1, h2, fun z => ?_, h4⟩
      obtain ⟨rfl, z2⟩ := z
      have : f = 0 := by omega
      subst this
      rw [e] at h4; omega
theorem TPI.new {g lo hi many n0 f b : Nat} {bd : Int} (T : TPI n S0 g R D P (fun x f' => x = n0 ∧ f ≤ f') lo hi many bd) (h0 : n0 < gN n) (hf : f < 4) (hP : P n0 = true) (hb : b < gN n) (hw : b / 64 < wN n) (e : nbr n n0 f = (b : Int)) (hR : R b = true) : TPI n S0 g (fun x => R x && !decide (x = b)) (fun x => D x || decide (x = b)) P (fun x f' => x = n0 ∧ f + 1 ≤ f') (min lo (b / 64)) (max hi (b / 64)) many bd := by
  obtain ⟨t1, t2, t3, t4, t5, t6, t7⟩ := T
  have hS : S0 b = true := ((t1 b hb).1).mpr (Or.inl hR)
  have hr : Rch n S0 g b := (((t1 n0 h0).2.2.2.2 (Or.inr hP)).1).st h0 hb hf e hS
  refine ⟨fun x hx => ?_, ?_, fun x x' f' h1 h2 h3 h4 h5 h6 => ?_, t4, ?_, t6, by omega, by omega⟩
  · have := t1 x hx
    by_cases q : x = b
    · subst q
      simp [hR] at this ⊢
      refine ⟨hS, ?_, hr, by omega, by omega⟩
      grind
    · simp only [q, decide_false, Bool.not_false, Bool.and_true, Bool.or_false]
      refine ⟨this.1, this.2.1, this.2.2.1, this.2.2.2.1, fun z => ?_⟩
      have := this.2.2.2.2 z
      exact ⟨this.1, by omega, by omega⟩
  · rcases t2 with t2 | t2
    · left; simp [t2]
    · exact Or.inr t2
  · by_cases q : x = n0 ∧ f' = f
    · obtain ⟨rfl, rfl⟩ := q
      rw [e] at h6
      obtain rfl : b = x' := by omega
      simp
    · have := t3 x x' f' h1 h2 h3 h4 (fun z => h5 ⟨z.1, by have := z.2; have : ¬ (x = n0 ∧ f' = f) := q; omega⟩) h6
      simp [this]
  · rw [t5]
    constructor
    · rintro ⟨x, h1, h2, h3, h4⟩; exact ⟨x, h1, h2, fun z => h3 ⟨z.1, by omega⟩, h4⟩
    · rintro ⟨x, h1, h2, h3, h4⟩
      refine ⟨x, h1, h2, fun z => ?_, h4⟩
      obtain ⟨rfl, z2⟩ := z
      have : f = 0 := by omega
      subst this
      rw [e] at h4; omega
end PIECE
