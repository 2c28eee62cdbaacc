/-! L3: how many dimensions are needed (model): what a fixpoint tells -/
noncomputable section MWY
variable {D : Nat} {V : Nat → Nat → Int} {T : Nat → Bool} {G : Nat → Int} {f : Nat → Int}
/-- nothing can be made smaller -/
def FxS (D : Nat) (V : Nat → Nat → Int) (T : Nat → Bool) (G : Nat → Int) (f : Nat → Int) : Prop := (∀ e, e < 2 * D → T (e / 2) = true → isE V e G → f e ≤ 0) ∧ ∀ k e, k < 2 * D → e < 2 * D → T (k / 2) = true → T (e / 2) = true → sE V e k → f e ≤ f (twE k) + 1
theorem FxS.all (x : FxS D V T G f) : ∀ (w e : Nat), e < 2 * D → T (e / 2) = true → rc D V T G w e → f e ≤ (w : Int)
  | 0, e, he, te, r => x.1 e he te r
  | w + 1, e, he, te, r => by
    rcases r with r | ⟨g, g1, g2, g3, g4⟩
    · have := FxS.all x w e he te r; omega
    · have a := FxS.all x w (twE g) (twE_lt g1) (by rw [(twE_2 g).1]; exact g3) g4
      have b := x.2 g e g1 he g3 te g2
      omega
theorem FxS.lv (x : FxS D V T G f) (hD : D ≤ 16) (s : FwS D V T G f) {e : Nat} (he : e < 2 * D) (te : T (e / 2) = true) : LvT D V T G e (f e) := by
  obtain ⟨⟨s1, s2⟩, s3⟩ := s e he
  by_cases z : ∃ v, rc D V T G v e
  · obtain ⟨v, hv'⟩ := z
    obtain ⟨w, _, hw⟩ := hv'.ex
    have wl := hw.lt he
    have le := x.all w e he te hw.1
    have r := s3 (by omega)
    have : w ≤ (f e).toNat := Nat.le_of_not_lt (fun y => hw.2 _ y r)
    exact Or.inl ⟨w, by omega, wl, hw⟩
  · refine Or.inr ⟨?_, fun v y => z ⟨v, y⟩⟩
    by_cases y : f e < 1000
    · exact absurd ⟨_, s3 y⟩ z
    · omega
/-- the sum of what is told: each change makes it smaller -/
def smF (f : Nat → Int) : Nat → Nat
  | 0 => 0
  | n + 1 => smF f n + (f n).toNat
theorem smF_set {f f' : Nat → Int} {m : Nat} (h0 : 0 ≤ f' m) (lt : f' m < f m) (e : ∀ i, i ≠ m → f' i = f i) : ∀ N, smF f' N + (if m < N then 1 else 0) ≤ smF f N
  | 0 => Nat.le_refl _
  | N + 1 => by
    have ih := smF_set h0 lt e N
    show smF f' N + (f' N).toNat + (if m < N + 1 then 1 else 0) ≤ smF f N + (f N).toNat
    by_cases z : N = m
    · subst z
      rw [if_neg (Nat.lt_irrefl _)] at ih
      rw [if_pos (Nat.lt_succ_self _)]
      omega
    · rw [e N z]
      by_cases y : m < N
      · rw [if_pos y] at ih
        rw [if_pos (show m < N + 1 by omega)]
        omega
      · rw [if_neg y] at ih
        rw [if_neg (show ¬ m < N + 1 by omega)]
        omega
end MWY
