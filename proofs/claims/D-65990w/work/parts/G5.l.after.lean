/-! L3: the sketches of both sides behind an edit -/
section AFTER
variable {c c' : Nat → Int} {B nv q s : Nat} {h h3 h' : AH} {Q : Nat → Nat} {al dn tt : Nat} {W : Nat → Nat → Prop}
theorem Agr.sym (g : Agr W h h') : Agr W h' h := ⟨g.1.symm, g.2.1.symm, fun c k z => (g.2.2 c k z).symm⟩
theorem SksR.after (R : SksR B nv c h (Q dn)) (M : MRg B h Q al dn tt) (n40 : nv ≤ 40) (I : NmI c nv) (H : HiE c c') (e3 : c' 3 = c 3) (hs : s < 6) (oth : ∀ s' : Nat, s' ≠ s → s' < 6 → ∀ z, skA s' ≤ z → z < skA s' + 2592 → c' z = c z) (eE : Ext (edV B Q al dn) 140 2977 h h3) (E : DsEq h (Q dn) h3 q) (D' : YD B q h') (g : Agr (csW (q + (8 + 14 * s))) h3 h') (mine : SkV c s → SkR B nv c s h3 (q + (8 + 14 * s)) → (∀ X0 X N, AstI (B + 246) 240 h3 X0 X N → AstI (B + 246) 240 h' X0 X N) → SkV c' s ∧ SkR B nv c' s h' (q + (8 + 14 * s))) : SksR B nv c' h' q := by
  have D3 : YD B q h3 := D'.agr g.sym (fun c k p w => by
    unfold csW at w
    rcases p with p | p | p | ⟨s', hs', p, p2⟩ | ⟨s', hs', p, _⟩ <;> omega)
  have ast : ∀ X0 X N, AstI (B + 246) 240 h3 X0 X N → AstI (B + 246) 240 h' X0 X N := fun X0 X N A => ast_d D3 g (fun a k w => by unfold csW at w; omega) A
  refine ⟨by rw [e3]; exact R.1, ?_, fun s' hs' h3' => ?_⟩
  · rw [g.at _ _ (by unfold csW; omega), E.1 3 (by decide), R.2.1, e3]
  · rw [e3] at h3'
    obtain ⟨V, S⟩ := R.2.2 s' hs' h3'
    have S3 := S.cp (E.2.2.2.2.2.1 s' hs' (by rw [R.2.1]; exact h3')) (fun x X N A => ast_ed M eE A)
    by_cases es : s' = s
    · subst es; exact mine V S3 ast
    · exact ⟨V.oth (oth s' es hs'), S3.oth n40 I H (oth s' es hs') (fun a j h1 h2 _ => g.at _ _ (by unfold csW; omega)) ast⟩
/-- a point on both sides -/
theorem SksR.ptE_ (R : SksR B nv c h (Q dn)) (M : MRg B h Q al dn tt) (n40 : nv ≤ 40) (I : NmI c nv) {x y : Int} (hs : s < 6) (ok : ptE (c 3) (c (skA s + 2)) (s : Int) x y = 0) (hs3 : (s : Int) < c 3) (Ed : EdSk B h Q al dn s h' (fun h3 w => h' = hset (hset (hset h3 (w + 1) (c (skA s + 2)).toNat x) (w + 2) (c (skA s + 2)).toNat y) w 2 (c (skA s + 2) + 1))) :
    ∃ q, hv h' (B + 149) 19 = rf q ∧ SksR B nv (ptC c s (c (skA s + 2)).toNat x y) h' q := by
  obtain ⟨h3, Q', al', eE, e1, e2, e4, e5, E, e7, e8, ME, P⟩ := Ed
  have m4 := ME.2.2.2.2.2.2.2.1 (dn + 1) ME.2.2.2.2.2.1
  have V := (R.2.2 s hs hs3).1
  have v1 := V.1.1
  obtain ⟨np, enp⟩ : ∃ np : Nat, c (skA s + 2) = (np : Int) := ⟨(c (skA s + 2)).toNat, by omega⟩
  rw [enp, tn] at P
  rw [enp, tn]
  have okk : np < 12 ∧ (-200 ≤ x ∧ x ≤ 200) ∧ -200 ≤ y ∧ y ≤ 200 := by
    rw [enp] at ok
    unfold ptE at ok
    rw [if_neg (by omega)] at ok
    by_cases f : farP x ∨ farP y
    · rw [if_pos f] at ok; omega
    · rw [if_neg f] at ok
      unfold farP at f
      by_cases z : (np : Int) = 12
      · rw [if_pos z] at ok; omega
      · omega
  refine ⟨Q' (dn + 1), ME.2.2.2.1, R.after M n40 I hi_pt (by rw [pt_ne (by unfold skA; omega) (by unfold skA; omega) (by unfold skA; omega)]) hs (fun s' ne hs' z h1 h2 => pt_ne (by unfold skA at *; omega) (by unfold skA at *; omega) (by unfold skA at *; omega)) eE E m4.2.1 ?_ (fun V S ast => ?_)⟩
  · rw [P]
    exact ((Agr.rf.set (Or.inr ⟨by omega, by omega⟩)).set (Or.inr ⟨by omega, by omega⟩)).set (Or.inl ⟨rfl, by decide⟩)
  · rw [P] at ast ⊢
    have S' := S.pt n40 I enp okk.1 ast
    exact ⟨V.pt S'.1 enp okk.1 okk.2.1 okk.2.2, S'⟩
end AFTER
