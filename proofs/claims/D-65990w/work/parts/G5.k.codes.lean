/-! L3: the codes of constrain, what can be dropped: the same on both sides -/
section CODES
variable {c : Nat → Int} {B nv q s w : Nat} {h : AH} {x u x2 kd a b e : Int}
theorem SkR.ln_b (R : SkR B nv c s h w) (V : SkV c s) : (u < 0 ∨ hv h w 3 ≤ u ∨ hv h (w + 5) u.toNat = 0) ↔ (u < 0 ∨ c (skA s + 27) ≤ u ∨ c (liA s u.toNat + 2) ≠ 1) := by
  obtain ⟨r0, r1, r2, r3, r4, r5⟩ := R.2.1
  rw [r3]
  by_cases z : u < 0 ∨ c (skA s + 27) ≤ u
  · exact ⟨fun _ => by omega, fun _ => by omega⟩
  · obtain ⟨a1, a2, a3⟩ := R.2.2.2.1 u.toNat (by omega)
    obtain ⟨b1, b2, b3⟩ := V.2.2.1 u.toNat (by omega)
    rw [a3]
    constructor
    · intro y; right; right; omega
    · intro y; right; right; omega
theorem SksR.co (R : SksR B nv c h q) : coE h q x kd a b e = coN c x kd a b e := by
  obtain ⟨R1, R2, R3⟩ := R
  unfold coE coN
  by_cases z : x < 0 ∨ c 3 ≤ x
  · rw [if_pos (show x < 0 ∨ hv h q 3 ≤ x by omega), if_pos z]
  · rw [if_neg (show ¬ (x < 0 ∨ hv h q 3 ≤ x) by omega), if_neg z]
    obtain ⟨V, S⟩ := R3 x.toNat (by omega) (by omega)
    obtain ⟨r0, r1, r2, r3, r4, r5⟩ := S.2.1
    have pe : ∀ p, ptB h q x p ↔ ptN c x p := fun p => by
      unfold ptB ptN
      rw [R2, r2]
    have le : ∀ p, lnB h q x p ↔ lnN c x p := fun p => by
      unfold lnB lnN
      rw [R2]
      exact or_congr Iff.rfl (S.ln_b V)
    have ag : agB h q x kd a b e ↔ agN c x kd a b e := by
      unfold agB agN
      rw [pe, pe, pe, le, le]
    by_cases k : kd < 0 ∨ 23 < kd
    · rw [if_pos k, if_pos k]
    · rw [if_neg k, if_neg k, r5]
      by_cases g : agN c x kd a b e
      · rw [if_pos g, if_pos (ag.mpr g)]
      · rw [if_neg g, if_neg (fun y => g (ag.mp y))]
theorem SkR.nh (R : SkR B nv c s h w) (V : SkV c s) : nhM h w u (hv h w 5).toNat ↔ nhN c s u (c (skA s + 479)).toNat := by
  obtain ⟨r0, r1, r2, r3, r4, r5⟩ := R.2.1
  rw [r5]
  unfold nhM nhN
  constructor
  · intro y i hi
    obtain ⟨a1, a2, a3, a4, a5, -⟩ := R.2.2.2.2.2 i (by omega)
    have := y i hi
    rw [a1, a2, a3, a5] at this
    exact this
  · intro y i hi
    obtain ⟨a1, a2, a3, a4, a5, -⟩ := R.2.2.2.2.2 i (by omega)
    rw [a1, a2, a3, a5]
    exact y i hi
theorem SkR.dr_iff (R : SkR B nv c s h w) (V : SkV c s) : drP h w x2 u ↔ drN c s x2 u := by
  obtain ⟨r0, r1, r2, r3, r4, r5⟩ := R.2.1
  unfold drP drN
  refine and_congr_right (fun u0 => ?_)
  refine or_congr (and_congr Iff.rfl (and_congr ?_ (R.nh V))) (or_congr (and_congr Iff.rfl ?_) (and_congr Iff.rfl ?_))
  · rw [r3]
    refine and_congr_right (fun h1 => ?_)
    obtain ⟨a1, a2, a3⟩ := R.2.2.2.1 u.toNat (by omega)
    obtain ⟨b1, b2, b3⟩ := V.2.2.1 u.toNat (by omega)
    rw [a3]
    omega
  · rw [r4]
    refine and_congr_right (fun h1 => ?_)
    obtain ⟨a1, a2⟩ := R.2.2.2.2.1 u.toNat (by omega)
    rcases a2 with ⟨e1, e2⟩ | ⟨e1, e2, -⟩
    · rw [e1, e2]; exact ⟨fun y => absurd rfl y, fun y => absurd y (by decide)⟩
    · exact ⟨fun _ => e1, fun _ => e2⟩
  · rw [r5]
    refine and_congr_right (fun h1 => ?_)
    obtain ⟨a1, a2, a3, a4, a5, -⟩ := R.2.2.2.2.2 u.toNat (by omega)
    obtain ⟨_, b2, _⟩ := V.2.2.2.2 u.toNat (by omega)
    rw [a5]
    omega
end CODES
