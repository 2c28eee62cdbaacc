/-! L3: formulas outlast edits; counts on both sides -/
section ASTS
variable {c : Nat → Int} {B n nv q s w : Nat} {h h3 h' : AH} {Q : Nat → Nat} {al dn tt cc ss : Nat} {x : Int} {X : Dn} {N : Nat → Bool} {W : Nat → Nat → Prop}
/-- an edit begins: formulas stay -/
theorem ast_ed (M : MRg B h Q al dn tt) (e : Ext (edV B Q al dn) cc ss h h3) (A : AstI (B + 246) 240 h x X N) : AstI (B + 246) 240 h3 x X N := A.e24 e (fun a k la ka w => by
  rcases w with w | w
  · unfold edW at w
    rcases w with w | w | w | ⟨w1, w2⟩
    · omega
    · omega
    · omega
    · exact (M.2.2.2.2.2.2.2.1 (dn + 1) w1).2.1.n24 w2.1 w2.2.1 ka
  · omega)
/-- cells of a design are written: formulas stay -/
theorem ast_d (D : YD B q h) (g : Agr W h h') (hW : ∀ a k, W a k → q ≤ a ∧ a < q + 140) (A : AstI (B + 246) 240 h x X N) : AstI (B + 246) 240 h' x X N := A.e24 g.ext (fun a k la ka w => D.n24 (hW a k w).1 (hW a k w).2 ka)
/-- reading a text: formulas stay -/
theorem ast_md (e : Ext (mdW B) cc ss h h') (A : AstI (B + 246) 240 h x X N) : AstI (B + 246) 240 h' x X N := A.e24 e (fun a k la ka w => by unfold mdW at w; omega)
/-- the sketches of both sides -/
def SksR (B nv : Nat) (c : Nat → Int) (h : AH) (q : Nat) : Prop := (0 ≤ c 3 ∧ c 3 ≤ 6) ∧ hv h q 3 = c 3 ∧ ∀ s : Nat, s < 6 → (s : Int) < c 3 → SkV c s ∧ SkR B nv c s h (q + (8 + 14 * s))
theorem SksR.skN (R : SksR B nv c h q) : SkN c := ⟨R.1, fun s hs h3 => (R.2.2 s hs h3).1.1⟩
theorem SksR.skB (R : SksR B nv c h q) : SkB h q := fun s hs => by
  obtain ⟨R1, R2, R3⟩ := R
  rw [R2] at hs
  obtain ⟨V, ⟨v, ⟨r0, r1, r2, r3, r4, r5⟩, -⟩⟩ := R3 s (by omega) hs
  rw [r2, r3, r4, r5]
  exact v
theorem SksR.csD (R : SksR B nv c h q) : ∀ s : Nat, s < 6 → (s : Int) < c 3 → ∃ nk cs xa xb xc isC, CsD c s nk cs xa xb xc isC := fun s hs h3 => ⟨_, _, _, _, _, _, (R.2.2 s hs h3).1.csD⟩
/-- the codes are the same -/
theorem SksR.pt (R : SksR B nv c h q) {s u v : Int} : ptE (hv h q 3) (hv h (q + (8 + 14 * s.toNat)) 2) s u v = ptE (c 3) (c (skA s.toNat + 2)) s u v := by
  obtain ⟨R1, R2, R3⟩ := R
  unfold ptE
  rw [R2]
  by_cases z : s < 0 ∨ c 3 ≤ s
  · rw [if_pos z, if_pos z]
  · rw [((R3 s.toNat (by omega) (by omega)).2.2.1).2.2.1]
theorem SksR.dg (R : SksR B nv c h q) {s p u v : Int} : dgE_ (hv h q 3) (hv h (q + (8 + 14 * s.toNat)) 2) s p u v = dgE_ (c 3) (c (skA s.toNat + 2)) s p u v := by
  obtain ⟨R1, R2, R3⟩ := R
  unfold dgE_
  rw [R2]
  by_cases z : s < 0 ∨ c 3 ≤ s
  · rw [if_pos (Or.inl z), if_pos (Or.inl z)]
  · rw [((R3 s.toNat (by omega) (by omega)).2.2.1).2.2.1]
theorem SksR.ln (R : SksR B nv c h q) {s u v : Int} : lnE (hv h q 3) (hv h (q + (8 + 14 * s.toNat)) 2) (hv h (q + (8 + 14 * s.toNat)) 3) s u v = lnE (c 3) (c (skA s.toNat + 2)) (c (skA s.toNat + 27)) s u v := by
  obtain ⟨R1, R2, R3⟩ := R
  unfold lnE
  rw [R2]
  by_cases z : s < 0 ∨ c 3 ≤ s
  · rw [if_pos (Or.inl (Or.inl z)), if_pos (Or.inl (Or.inl z))]
  · obtain ⟨r0, r1, r2, r3, r4, r5⟩ := (R3 s.toNat (by omega) (by omega)).2.2.1
    rw [r2, r3]
theorem SksR.di (R : SksR B nv c h q) {s p : Int} : diE (hv h q 3) (hv h (q + (8 + 14 * s.toNat)) 2) (hv h (q + (8 + 14 * s.toNat)) 4) s p = diE (c 3) (c (skA s.toNat + 2)) (c (skA s.toNat + 100)) s p := by
  obtain ⟨R1, R2, R3⟩ := R
  unfold diE
  rw [R2]
  by_cases z : s < 0 ∨ c 3 ≤ s
  · rw [if_pos (Or.inl z), if_pos (Or.inl z)]
  · obtain ⟨r0, r1, r2, r3, r4, r5⟩ := (R3 s.toNat (by omega) (by omega)).2.2.1
    rw [r2, r4]
theorem SksR.dr (R : SksR B nv c h q) {s x : Int} : drE (hv h q 3) s x = drE (c 3) s x := by rw [R.2.1]
theorem SksR.sk (R : SksR B nv c h q) {a o : Int} : skE n (hv h q 3) a o = skE n (c 3) a o := by rw [R.2.1]
end ASTS
