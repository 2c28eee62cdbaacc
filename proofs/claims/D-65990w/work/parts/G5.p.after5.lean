/-! L3: the sketches of both sides behind an edit: a new sketch -/
section AFTER5
variable {c : Nat → Int} {B n nv : Nat} {h h' : AH} {Q : Nat → Nat} {al dn tt : Nat} {x y : Int}
theorem SksR.skE_ (R : SksR B nv c h (Q dn)) (M : MRg B h Q al dn tt) (n40 : nv ≤ 40) (I : NmI c nv) (ok : skE n (c 3) x y = 0) (Ed : EdQ B h Q al dn h' (fun h3 q => h' = hset (hset (hset (clSk h3 (q + (8 + 14 * (c 3).toNat))) (q + (8 + 14 * (c 3).toNat)) 0 x) (q + (8 + 14 * (c 3).toNat)) 1 y) q 3 (c 3 + 1))) :
    ∃ q, hv h' (B + 149) 19 = rf q ∧ SksR B nv (skC c (c 3).toNat x y) h' q := by
  obtain ⟨h3, Q', al', eE, e1, e2, e4, e5, E, e7, e8, ME, P⟩ := Ed
  have m4 := ME.2.2.2.2.2.2.2.1 (dn + 1) ME.2.2.2.2.2.1
  obtain ⟨R1, R2, R3⟩ := R
  obtain ⟨ns, ens⟩ : ∃ ns : Nat, c 3 = (ns : Int) := ⟨(c 3).toNat, by omega⟩
  have n6 : ns < 6 := by
    unfold skE at ok
    by_cases z : x < 0 ∨ 2 < x ∨ y < 0 ∨ (n : Int) < y
    · rw [if_pos z] at ok; omega
    · rw [if_neg z] at ok
      by_cases g : c 3 = 6
      · rw [if_pos g] at ok; omega
      · omega
  rw [ens, tn] at P
  rw [ens, tn]
  obtain ⟨q, eq_⟩ : ∃ q, q = Q' (dn + 1) := ⟨_, rfl⟩
  rw [← eq_] at P E m4
  have sl := skA_lo (s := ns)
  have c3 : skC c ns x y 3 = (ns : Int) + 1 := by
    unfold skC
    rw [upc_ne (by omega), upc_ne (by omega), upc_ne (by omega), upc_ne (by omega), upc_ne (by omega), upc_ne (by omega), upc_at]; omega
  have out : ∀ z, z ≠ 3 → (z < skA ns ∨ skA ns + 2592 ≤ z) → skC c ns x y z = c z := fun z h1 h2 => by
    unfold skC
    rw [upc_ne (by omega), upc_ne (by omega), upc_ne (by omega), upc_ne (by omega), upc_ne (by omega), upc_ne (by omega), upc_ne h1]
  have g : Agr (fun a k => (a = q + (8 + 14 * ns) ∧ k < 6) ∨ (a = q ∧ k = 3)) h3 h' := by
    rw [P]
    unfold clSk
    exact ((((((Agr.rf.set (Or.inl ⟨rfl, by decide⟩)).set (Or.inl ⟨rfl, by decide⟩)).set (Or.inl ⟨rfl, by decide⟩)).set (Or.inl ⟨rfl, by decide⟩)).set (Or.inl ⟨rfl, by decide⟩)).set (Or.inl ⟨rfl, by decide⟩)).set (Or.inr ⟨rfl, rfl⟩)
  have D3 : YD B q h3 := m4.2.1.agr g.sym (fun c k p w => by rcases p with p | p | p | ⟨s', hs', p, p2⟩ | ⟨s', hs', p, _⟩ <;> omega)
  have ast : ∀ X0 X N, AstI (B + 246) 240 h3 X0 X N → AstI (B + 246) 240 h' X0 X N := fun X0 X N A => ast_d D3 g (fun a k w => by omega) A
  refine ⟨q, by rw [eq_]; exact ME.2.2.2.1, ⟨by omega, by omega⟩, ?_, fun s' hs' h3' => ?_⟩
  · rw [P, hv_set_at, c3]
  · rw [c3] at h3'
    by_cases es : s' = ns
    · subst es
      have S' : SkR B nv (skC c s' x y) s' h' (q + (8 + 14 * s')) := by
        rw [P]; exact SkR.new (by omega)
      exact ⟨SkV.new S'.1, S'⟩
    · obtain ⟨V, S⟩ := R3 s' hs' (by omega)
      have S3 := S.cp (E.2.2.2.2.2.1 s' hs' (by rw [R2]; omega)) (fun x X N A => ast_ed M eE A)
      have oth : ∀ z, skA s' ≤ z → z < skA s' + 2592 → skC c ns x y z = c z := fun z h1 h2 => by
        have := sk_dis (s := ns) es h1 h2
        have := skA_lo (s := s')
        exact out z (by omega) (by omega)
      exact ⟨V.oth oth, S3.oth n40 I hi_sk oth (fun a j h1 h2 h4 => g.at _ _ (by omega)) ast⟩
end AFTER5
