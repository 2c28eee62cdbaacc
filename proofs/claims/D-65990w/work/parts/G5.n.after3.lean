/-! L3: the sketches of both sides behind an edit: drops, disc -/
section AFTER3
variable {c c' b ub : Nat → Int} {B nv nc q s m cc ss : Nat} {h h1 h3 h' : AH} {Q : Nat → Nat} {al dn tt : Nat} {x y u x2 : Int}
theorem SksR.drE_ (R : SksR B nv c h (Q dn)) (M : MRg B h Q al dn tt) (n40 : nv ≤ 40) (I : NmI c nv) (hs : s < 6) (hs3 : (s : Int) < c 3) (can : drN c s x2 u) (Ed : EdSk B h Q al dn s h' (fun h3 w => h' = hset h3 (w + (if x2 = 0 then 5 else if x2 = 1 then 7 else 12)) u.toNat 0)) :
    ∃ q, hv h' (B + 149) 19 = rf q ∧ SksR B nv (upc c (drA s u.toNat x2) 0) h' q := by
  obtain ⟨h3, Q', al', eE, e1, e2, e4, e5, E, e7, e8, ME, P⟩ := Ed
  have m4 := ME.2.2.2.2.2.2.2.1 (dn + 1) ME.2.2.2.2.2.1
  have V := (R.2.2 s hs hs3).1
  obtain ⟨v1, v2, v3, v4⟩ := id V.1
  obtain ⟨u0, can⟩ := can
  obtain ⟨k, ek⟩ : ∃ k : Nat, u = (k : Int) := ⟨u.toNat, by omega⟩
  subst ek
  rw [tn] at P ⊢
  have sl := skA_lo (s := s)
  have la : liA s k = skA s + 28 + 3 * k := rfl
  have ld : diA s k = skA s + 101 + 63 * k := rfl
  have lc : coA s k = skA s + 480 + 66 * k := rfl
  rcases can with ⟨w, ⟨z, -⟩, -⟩ | ⟨w, z, -⟩ | ⟨w, z, -⟩
  · rw [if_pos w] at P
    have ed : drA s k x2 = liA s k + 2 := by unfold drA; rw [if_pos w]
    rw [ed]
    refine ⟨Q' (dn + 1), ME.2.2.2.1, R.after M n40 I (HiE.rf.up (Or.inr (by omega))) (upc_ne (by omega)) hs (fun s' ne hs' z h1 h2 => by have := sk_dis ne h1 h2; exact upc_ne (by omega)) eE E m4.2.1 ?_ (fun V S ast => ?_)⟩
    · rw [P]; exact Agr.rf.set (Or.inr ⟨by omega, by omega⟩)
    · rw [P] at ast ⊢
      have S' := S.dl n40 I (by omega) ast
      exact ⟨V.off S'.1 (Or.inl ⟨k, by omega, rfl⟩), S'⟩
  · rw [if_neg (by omega), if_pos w] at P
    have ed : drA s k x2 = diA s k + 1 := by unfold drA; rw [if_neg (by omega), if_pos w]
    rw [ed]
    refine ⟨Q' (dn + 1), ME.2.2.2.1, R.after M n40 I (HiE.rf.up (Or.inr (by omega))) (upc_ne (by omega)) hs (fun s' ne hs' z h1 h2 => by have := sk_dis ne h1 h2; exact upc_ne (by omega)) eE E m4.2.1 ?_ (fun V S ast => ?_)⟩
    · rw [P]; exact Agr.rf.set (Or.inr ⟨by omega, by omega⟩)
    · rw [P] at ast ⊢
      have S' := S.dd n40 I (by omega) ast
      exact ⟨V.off S'.1 (Or.inr (Or.inl ⟨k, by omega, rfl⟩)), S'⟩
  · rw [if_neg (by omega), if_neg (by omega)] at P
    have ed : drA s k x2 = coA s k + 4 := by unfold drA; rw [if_neg (by omega), if_neg (by omega)]
    rw [ed]
    refine ⟨Q' (dn + 1), ME.2.2.2.1, R.after M n40 I (HiE.rf.up (Or.inr (by omega))) (upc_ne (by omega)) hs (fun s' ne hs' z h1 h2 => by have := sk_dis ne h1 h2; exact upc_ne (by omega)) eE E m4.2.1 ?_ (fun V S ast => ?_)⟩
    · rw [P]; exact Agr.rf.set (Or.inr ⟨by omega, by omega⟩)
    · rw [P] at ast ⊢
      have S' := S.dk n40 I (by omega) ast
      exact ⟨V.off S'.1 (Or.inr (Or.inr ⟨k, by omega, rfl⟩)), S'⟩
/-- a text was read -/
theorem SksR.md (R : SksR B nv c h (Q dn)) (M : MRg B h Q al dn tt) (e : Ext (mdW B) cc ss h h1) : SksR B nv c h1 (Q dn) := by
  have m4 := M.2.2.2.2.2.2.2.1 dn (by have := M.2.2.2.2.1; have := M.2.2.2.2.2.1; omega)
  have lo := m4.2.1.lo
  have hx := m4.2.2.2
  refine ⟨R.1, by rw [e.at _ (by omega) (by unfold mdW; omega)]; exact R.2.1, fun s hs h3 => ?_⟩
  obtain ⟨V, S⟩ := R.2.2 s hs h3
  exact ⟨V, S.cp ⟨fun k _ => e.at _ (by omega) (by unfold mdW; omega), fun j k _ _ _ => e.at _ (by omega) (by unfold mdW; omega)⟩ (fun x X N A => ast_md e A)⟩
/-- a disc on both sides -/
theorem SksR.diE_ {X : Dn} {N : Nat → Bool} {p : Nat} (R : SksR B nv c h (Q dn)) (M : MRg B h Q al dn tt) (n40 : nv ≤ 40) (I : NmI c nv) (hs : s < 6) (ok : diE (c 3) (c (skA s + 2)) (c (skA s + 100)) (s : Int) x = 0) (hs3 : (s : Int) < c 3) (hm : m ≤ 240) (hb : ∀ i, i < m → -128 ≤ b i ∧ b i < 128) (hu : ∀ i, ub i = b i % 256) (r : txW c nv nc b ub m = .inr (X, N, p)) (A : AstI (B + 246) 240 h y X N) (yp : 0 < y) (Ed : EdSk B h Q al dn s h' (fun h3 w => h' = hset (hset (hset h3 (w + 6) (c (skA s + 100)).toNat x) (w + 7) (c (skA s + 100)).toNat y) w 4 (c (skA s + 100) + 1))) :
    ∃ q, hv h' (B + 149) 19 = rf q ∧ SksR B nv (dcC c s (c (skA s + 100)).toNat x b m) h' q := by
  obtain ⟨h3, Q', al', eE, e1, e2, e4, e5, E, e7, e8, ME, P⟩ := Ed
  have m4 := ME.2.2.2.2.2.2.2.1 (dn + 1) ME.2.2.2.2.2.1
  have V := (R.2.2 s hs hs3).1
  have v1 := V.1.2.2.1
  obtain ⟨nd, end_⟩ : ∃ nd : Nat, c (skA s + 100) = (nd : Int) := ⟨(c (skA s + 100)).toNat, by omega⟩
  rw [end_, tn] at P
  rw [end_, tn]
  have okk : nd < 6 ∧ 0 ≤ x ∧ x < c (skA s + 2) := by
    rw [end_] at ok
    unfold diE at ok
    by_cases z : ((s : Int) < 0 ∨ c 3 ≤ (s : Int)) ∨ x < 0 ∨ c (skA s + 2) ≤ x
    · rw [if_pos z] at ok; omega
    · rw [if_neg z] at ok
      by_cases g : (nd : Int) = 6
      · rw [if_pos g] at ok; omega
      · omega
  have sl := skA_lo (s := s)
  have la : diA s nd = skA s + 101 + 63 * nd := rfl
  refine ⟨Q' (dn + 1), ME.2.2.2.1, R.after M n40 I hi_dc (dc_ne hm (by omega) (by omega)) hs (fun s' ne hs' z h1 h2 => by have := sk_dis ne h1 h2; exact dc_ne hm (by omega) (by omega)) eE E m4.2.1 ?_ (fun V S ast => ?_)⟩
  · rw [P]
    exact ((Agr.rf.set (Or.inr ⟨by omega, by omega⟩)).set (Or.inr ⟨by omega, by omega⟩)).set (Or.inl ⟨rfl, by decide⟩)
  · rw [P] at ast ⊢
    have S' := S.dc n40 I end_ okk.1 hm hb hu r (ast_ed M eE A) yp ast
    exact ⟨V.dc S'.1 end_ okk.1 hm okk.2, S'⟩
end AFTER3
