/-! L3: the greatest piece of a solid (model) -/
/-- the piece of g in S -/
noncomputable def pcB (n : Nat) (S : Nat → Bool) (g x : Nat) : Bool := @decide (Rch n S g x) (Classical.propDecidable _)
noncomputable def pcN (n : Nat) (S : Nat → Bool) (g : Nat) : Nat := cntN (pcB n S g) (gN n)
/-- place c is of grain g of S -/
def scI (n : Nat) (S : Nat → Bool) (c g : Nat) : Prop := scV (8 * n) c ∧ scG n c = (g : Int) ∧ g < gN n ∧ S g = true
/-- the greatest piece of those at places below s, of the same size the first -/
def grB (n : Nat) (S : Nat → Bool) (s best : Nat) (T T0 : Nat → Bool) : Prop := (best = 0 ∧ (∀ x, x < gN n → T x = T0 x) ∧ ∀ c g, c < s → ¬ scI n S c g) ∨ (∃ c0 g0, c0 < s ∧ scI n S c0 g0 ∧ best = pcN n S g0 ∧ (∀ x, x < gN n → T x = pcB n S g0 x) ∧ (∀ c g, c < c0 → scI n S c g → pcN n S g < best) ∧ ∀ c g, c < s → scI n S c g → pcN n S g ≤ best)
/-- what is left when the pieces at places below s are taken -/
def grR (n : Nat) (S : Nat → Bool) (s : Nat) (R : Nat → Bool) : Prop := ∀ x, x < gN n → (R x = true ↔ S x = true ∧ ∀ c g, c < s → scI n S c g → ¬ Rch n S g x)
section GREAT
variable {gv : Nat → Int} {B n d s t : Nat} {h : AH} {S T0 T R : Nat → Bool} {best s0 s1 : Nat}
theorem pcB_iff {g x : Nat} : pcB n S g x = true ↔ Rch n S g x := by
  unfold pcB
  exact @decide_eq_true_iff _ (Classical.propDecidable _)
theorem pc_same {g g1 : Nat} (h1 : g1 < gN n) (h2 : S g1 = true) (r : Rch n S g1 g) : pcN n S g = pcN n S g1 := by
  refine cntN_congr _ (fun x hx => Bool.eq_iff_iff.mpr ?_)
  rw [pcB_iff, pcB_iff]
  exact ⟨fun q => r.tr q, fun q => (r.sym h1 h2).tr q⟩
theorem pc_pos {g : Nat} (hg : g < gN n) : 0 < pcN n S g := by
  apply Classical.byContradiction
  intro w
  have := cntN_zero (gN n) (S := pcB n S g) (by unfold pcN at w; omega) g hg
  rw [pcB_iff.mpr Rch.rf] at this
  exact absurd this (by decide)
theorem grR.skip (r : grR n S s0 R) (h01 : s0 ≤ s1) (no : ∀ c g, s0 ≤ c → c < s1 → scI n S c g → ∃ c1 g1, c1 < s0 ∧ scI n S c1 g1 ∧ Rch n S g1 g) : grR n S s1 R := fun x hx => by
  rw [r x hx]
  refine ⟨fun ⟨a, b⟩ => ⟨a, fun c g hc i => ?_⟩, fun ⟨a, b⟩ => ⟨a, fun c g hc i => b c g (by omega) i⟩⟩
  by_cases w : c < s0
  · exact b c g w i
  · obtain ⟨c1, g1, q1, q2, q3⟩ := no c g (by omega) hc i
    exact fun q => b c1 g1 q1 q2 (q3.tr q)
theorem grB.skip (r : grB n S s0 best T T0) (h01 : s0 ≤ s1) (no : ∀ c g, s0 ≤ c → c < s1 → scI n S c g → ∃ c1 g1, c1 < s0 ∧ scI n S c1 g1 ∧ Rch n S g1 g) : grB n S s1 best T T0 := by
  rcases r with ⟨a, b, c⟩ | ⟨c0, g0, a1, a2, a3, a4, a5, a6⟩
  · refine Or.inl ⟨a, b, fun k g hk i => ?_⟩
    by_cases w : k < s0
    · exact c k g w i
    · obtain ⟨c1, g1, q1, q2, q3⟩ := no k g (by omega) hk i
      exact c c1 g1 q1 q2
  · refine Or.inr ⟨c0, g0, by omega, a2, a3, a4, a5, fun k g hk i => ?_⟩
    by_cases w : k < s0
    · exact a6 k g w i
    · obtain ⟨c1, g1, q1, q2, q3⟩ := no k g (by omega) hk i
      rw [pc_same q2.2.2.1 q2.2.2.2 q3]
      exact a6 c1 g1 q1 q2
/-- what is left is closed -/
theorem grR.cl (r : grR n S s0 R) : ∀ x x' f, x < gN n → x' < gN n → f < 4 → R x = true → nbr n x f = (x' : Int) → S x' = true → R x' = true := fun x x' f hx hx' hf rx e sx' => by
  obtain ⟨a, b⟩ := (r x hx).mp rx
  refine (r x' hx').mpr ⟨sx', fun c g hc i q => b c g hc i ?_⟩
  obtain ⟨f', q1, q2⟩ := nbr_sym hx hf e
  exact q.st hx' hx q1 q2 a
/-- one more piece is taken -/
theorem grR.take {P : Nat → Bool} {c g : Nat} (r : grR n S c R) (hg : scI n S c g) (rg : R g = true) (hP : ∀ x, x < gN n → (P x = true ↔ Rch n R g x)) : grR n S (c + 1) (fun x => R x && !P x) := fun x hx => by
  have rs : Rch n R g x ↔ Rch n S g x := Rch.sub r.cl (fun x hx q => ((r x hx).mp q).1) rg
  have e := hP x hx
  rw [rs] at e
  show (R x && !P x) = true ↔ _
  rw [Bool.and_eq_true, Bool.not_eq_true', r x hx]
  constructor
  · rintro ⟨⟨a, b⟩, p⟩
    refine ⟨a, fun k g' hk i => ?_⟩
    by_cases w : k < c
    · exact b k g' w i
    · obtain rfl : k = c := by omega
      have : g' = g := Int.ofNat.inj (i.2.1.symm.trans hg.2.1)
      rw [this]
      intro q
      rw [e.mpr q] at p
      exact absurd p (by decide)
  · rintro ⟨a, b⟩
    refine ⟨⟨a, fun k g' hk i => b k g' (by omega) i⟩, ?_⟩
    cases p : P x
    · rfl
    · exact absurd (e.mp p) (b c g (by omega) hg)
theorem grB.take {P : Nat → Bool} {c g : Nat} (r : grB n S c best T T0) (q : grR n S c R) (hg : scI n S c g) (rg : R g = true) (hP : ∀ x, x < gN n → (P x = true ↔ Rch n R g x)) : (cntN P (gN n) ≤ best → grB n S (c + 1) best T T0) ∧ (best < cntN P (gN n) → grB n S (c + 1) (cntN P (gN n)) P T0) := by
  have e : ∀ x, x < gN n → P x = pcB n S g x := fun x hx => Bool.eq_iff_iff.mpr (by
    rw [hP x hx, pcB_iff]
    exact Rch.sub q.cl (fun x hx w => ((q x hx).mp w).1) rg)
  have ec : cntN P (gN n) = pcN n S g := cntN_congr _ e
  have pp := pc_pos (S := S) hg.2.2.1
  rw [ec]
  have same : ∀ k g', scI n S k g' → ¬ k < c → k < c + 1 → g' = g := fun k g' i w w2 => by
    obtain rfl : k = c := by omega
    exact Int.ofNat.inj (i.2.1.symm.trans hg.2.1)
  constructor
  · intro w
    rcases r with ⟨a, b, c'⟩ | ⟨c0, g0, a1, a2, a3, a4, a5, a6⟩
    · omega
    · refine Or.inr ⟨c0, g0, by omega, a2, a3, a4, a5, fun k g' hk i => ?_⟩
      by_cases z : k < c
      · exact a6 k g' z i
      · rw [same k g' i z hk]; exact w
  · intro w
    refine Or.inr ⟨c, g, by omega, hg, rfl, e, fun k g' hk i => ?_, fun k g' hk i => ?_⟩
    · rcases r with ⟨a, b, c'⟩ | ⟨c0, g0, a1, a2, a3, a4, a5, a6⟩
      · exact absurd i (c' k g' hk)
      · have := a6 k g' hk i; omega
    · by_cases z : k < c
      · rcases r with ⟨a, b, c'⟩ | ⟨c0, g0, a1, a2, a3, a4, a5, a6⟩
        · exact absurd i (c' k g' z)
        · have := a6 k g' z i; omega
      · rw [same k g' i z hk]; exact Nat.le_refl _
end GREAT
