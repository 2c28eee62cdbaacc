/-! L3: the sketches of both sides behind an edit: drag, line -/
section AFTER2
variable {c c' : Nat → Int} {B nv q s : Nat} {h h3 h' : AH} {Q : Nat → Nat} {al dn tt : Nat} {x y u : Int}
theorem sk_dis {s s' z : Nat} (ne : s' ≠ s) (h1 : skA s' ≤ z) (h2 : z < skA s' + 2592) : z < skA s ∨ skA s + 2592 ≤ z := by unfold skA at *; omega
/-- a drag on both sides -/
theorem SksR.dgE (R : SksR B nv c h (Q dn)) (M : MRg B h Q al dn tt) (n40 : nv ≤ 40) (I : NmI c nv) (hs : s < 6) (ok : dgE_ (c 3) (c (skA s + 2)) (s : Int) u x y = 0) (hs3 : (s : Int) < c 3) (Ed : EdSk B h Q al dn s h' (fun h3 w => h' = hset (hset h3 (w + 1) u.toNat x) (w + 2) u.toNat y)) :
    ∃ q, hv h' (B + 149) 19 = rf q ∧ SksR B nv (dgC c s u.toNat x y) h' q := by
  obtain ⟨h3, Q', al', eE, e1, e2, e4, e5, E, e7, e8, ME, P⟩ := Ed
  have m4 := ME.2.2.2.2.2.2.2.1 (dn + 1) ME.2.2.2.2.2.1
  have V := (R.2.2 s hs hs3).1
  have v1 := V.1.1
  have okk : (0 ≤ u ∧ u < 12) ∧ (-200 ≤ x ∧ x ≤ 200) ∧ -200 ≤ y ∧ y ≤ 200 := by
    unfold dgE_ at ok
    by_cases z : ((s : Int) < 0 ∨ c 3 ≤ (s : Int)) ∨ u < 0 ∨ c (skA s + 2) ≤ u
    · rw [if_pos z] at ok; omega
    · rw [if_neg z] at ok
      by_cases f : farP x ∨ farP y
      · rw [if_pos f] at ok; omega
      · unfold farP at f; omega
  obtain ⟨p, ep⟩ : ∃ p : Nat, u = (p : Int) := ⟨u.toNat, by omega⟩
  subst ep
  rw [tn] at P ⊢
  have sl := skA_lo (s := s)
  refine ⟨Q' (dn + 1), ME.2.2.2.1, R.after M n40 I hi_dg (dg_ne (by omega) (by omega)) hs (fun s' ne hs' z h1 h2 => by have := sk_dis ne h1 h2; exact dg_ne (by omega) (by omega)) eE E m4.2.1 ?_ (fun V S ast => ?_)⟩
  · rw [P]
    exact (Agr.rf.set (Or.inr ⟨by omega, by omega⟩)).set (Or.inr ⟨by omega, by omega⟩)
  · rw [P] at ast ⊢
    have S' := S.dg n40 I (by omega) ast
    exact ⟨V.dg S'.1 (by omega) okk.2.1 okk.2.2, S'⟩
/-- a line on both sides -/
theorem SksR.lnE_ (R : SksR B nv c h (Q dn)) (M : MRg B h Q al dn tt) (n40 : nv ≤ 40) (I : NmI c nv) (hs : s < 6) (ok : lnE (c 3) (c (skA s + 2)) (c (skA s + 27)) (s : Int) x y = 0) (hs3 : (s : Int) < c 3) (Ed : EdSk B h Q al dn s h' (fun h3 w => h' = hset (hset (hset (hset h3 (w + 3) (c (skA s + 27)).toNat x) (w + 4) (c (skA s + 27)).toNat y) (w + 5) (c (skA s + 27)).toNat 1) w 3 (c (skA s + 27) + 1))) :
    ∃ q, hv h' (B + 149) 19 = rf q ∧ SksR B nv (lnC c s (c (skA s + 27)).toNat x y) h' q := by
  obtain ⟨h3, Q', al', eE, e1, e2, e4, e5, E, e7, e8, ME, P⟩ := Ed
  have m4 := ME.2.2.2.2.2.2.2.1 (dn + 1) ME.2.2.2.2.2.1
  have V := (R.2.2 s hs hs3).1
  have v1 := V.1.2.1
  obtain ⟨nl, enl⟩ : ∃ nl : Nat, c (skA s + 27) = (nl : Int) := ⟨(c (skA s + 27)).toNat, by omega⟩
  rw [enl, tn] at P
  rw [enl, tn]
  have okk : nl < 24 ∧ (0 ≤ x ∧ x < c (skA s + 2)) ∧ 0 ≤ y ∧ y < c (skA s + 2) := by
    rw [enl] at ok
    unfold lnE at ok
    by_cases z : (((s : Int) < 0 ∨ c 3 ≤ (s : Int)) ∨ x < 0 ∨ c (skA s + 2) ≤ x) ∨ y < 0 ∨ c (skA s + 2) ≤ y
    · rw [if_pos z] at ok; omega
    · rw [if_neg z] at ok
      by_cases f : x = y
      · rw [if_pos f] at ok; omega
      · rw [if_neg f] at ok
        by_cases g : (nl : Int) = 24
        · rw [if_pos g] at ok; omega
        · omega
  have sl := skA_lo (s := s)
  have la : liA s nl = skA s + 28 + 3 * nl := rfl
  have hl : skA s + 27 < liA s nl := by omega
  refine ⟨Q' (dn + 1), ME.2.2.2.1, R.after M n40 I hi_ln (ln_ne (by omega) hl) hs (fun s' ne hs' z h1 h2 => by have := sk_dis ne h1 h2; exact ln_ne (by omega) hl) eE E m4.2.1 ?_ (fun V S ast => ?_)⟩
  · rw [P]
    exact (((Agr.rf.set (Or.inr ⟨by omega, by omega⟩)).set (Or.inr ⟨by omega, by omega⟩)).set (Or.inr ⟨by omega, by omega⟩)).set (Or.inl ⟨rfl, by decide⟩)
  · rw [P] at ast ⊢
    have S' := S.ln n40 I enl okk.1 ast
    exact ⟨V.ln S'.1 enl okk.1 okk.2.1 okk.2.2, S'⟩
end AFTER2
