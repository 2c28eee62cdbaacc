/-! L3: the sketches of both sides behind an edit: constraints -/
section AFTER4
variable {c c' b ub : Nat → Int} {B nv nc q s m : Nat} {h h1 h3 h' : AH} {Q : Nat → Nat} {al dn tt : Nat} {x y u kd x3 x4 x5 : Int}
theorem coN_ok (z : coN c (s : Int) kd x3 x4 x5 = 0) : (0 ≤ kd ∧ kd < 24) ∧ c (skA s + 479) ≠ 32 ∧ (kd < 17 → (0 ≤ x3 ∧ x3 < c (skA s + 2)) ∧ (2 ≤ kd → 0 ≤ x4 ∧ x4 < c (skA s + 2)) ∧ (11 ≤ kd → 0 ≤ x5 ∧ x5 < c (skA s + 2))) ∧ (17 ≤ kd → (0 ≤ x3 ∧ x3 < c (skA s + 27)) ∧ 0 ≤ x4 ∧ x4 < c (skA s + 27)) := by
  obtain ⟨a1, a2, a3⟩ := coN_0 z
  rw [tn] at a3
  unfold coN at z
  rw [if_neg a1, if_neg a2] at z
  by_cases g : agN c (s : Int) kd x3 x4 x5
  · rw [if_pos g] at z; omega
  · unfold agN ptN lnN at g
    rw [tn] at g
    refine ⟨by omega, a3, fun k => ?_, fun k => ?_⟩
    · refine ⟨by omega, fun k2 => by omega, fun k11 => by omega⟩
    · omega
theorem SksR.coE_ (R : SksR B nv c h (Q dn)) (M : MRg B h Q al dn tt) (n40 : nv ≤ 40) (I : NmI c nv) (hs : s < 6) (ok : coN c (s : Int) kd x3 x4 x5 = 0) (hs3 : (s : Int) < c 3) (H : HiE c c') (hT : ∀ nk : Nat, c (skA s + 479) = (nk : Int) → (∀ z, z ≠ skA s + 479 → (z < coA s nk ∨ coA s nk + 66 ≤ z) → c' z = c z) ∧ c' (skA s + 479) = (nk : Int) + 1 ∧ c' (coA s nk) = kd ∧ c' (coA s nk + 1) = x3 ∧ c' (coA s nk + 2) = x4 ∧ c' (coA s nk + 3) = x5 ∧ c' (coA s nk + 4) = 1 ∧ ∀ h3 w, SkR B nv c s h3 w → nk < 32 → (∀ X0 X N, AstI (B + 246) 240 h X0 X N → AstI (B + 246) 240 h3 X0 X N) → (∀ X0 X N, AstI (B + 246) 240 h3 X0 X N → AstI (B + 246) 240 (coH h3 w nk kd x3 x4 x5 y) X0 X N) → SkR B nv c' s (coH h3 w nk kd x3 x4 x5 y) w) (Ed : EdSk B h Q al dn s h' (fun h3 w => h' = coH h3 w (c (skA s + 479)).toNat kd x3 x4 x5 y)) :
    ∃ q, hv h' (B + 149) 19 = rf q ∧ SksR B nv c' h' q := by
  obtain ⟨h3, Q', al', eE, e1, e2, e4, e5, E, e7, e8, ME, P⟩ := Ed
  have m4 := ME.2.2.2.2.2.2.2.1 (dn + 1) ME.2.2.2.2.2.1
  have V := (R.2.2 s hs hs3).1
  have v1 := V.1.2.2.2
  obtain ⟨nk, enk⟩ : ∃ nk : Nat, c (skA s + 479) = (nk : Int) := ⟨(c (skA s + 479)).toNat, by omega⟩
  rw [enk, tn] at P
  obtain ⟨o1, o2, o3, o4⟩ := coN_ok ok
  obtain ⟨t1, t2, t3, t4, t5, t6, t7, t8⟩ := hT nk enk
  have k32 : nk < 32 := by omega
  have sl := skA_lo (s := s)
  have la : coA s nk = skA s + 480 + 66 * nk := rfl
  refine ⟨Q' (dn + 1), ME.2.2.2.1, R.after M n40 I H (t1 _ (by omega) (by omega)) hs (fun s' ne hs' z h1 h2 => by have := sk_dis ne h1 h2; exact t1 z (by omega) (by omega)) eE E m4.2.1 ?_ (fun V S ast => ?_)⟩
  · rw [P]
    unfold coH
    exact ((((((Agr.rf.set (Or.inr ⟨by omega, by omega⟩)).set (Or.inr ⟨by omega, by omega⟩)).set (Or.inr ⟨by omega, by omega⟩)).set (Or.inr ⟨by omega, by omega⟩)).set (Or.inr ⟨by omega, by omega⟩)).set (Or.inr ⟨by omega, by omega⟩)).set (Or.inl ⟨rfl, by decide⟩)
  · rw [P] at ast ⊢
    have S' := t8 h3 _ S k32 (fun X0 X N A => ast_ed M eE A) ast
    exact ⟨V.cn S'.1 k32 enk t1 t2 t3 t4 t5 t6 t7 o1 o3 o4, S'⟩
/-- a constraint without a number on both sides -/
theorem SksR.coN_ (R : SksR B nv c h (Q dn)) (M : MRg B h Q al dn tt) (n40 : nv ≤ 40) (I : NmI c nv) (hs : s < 6) (ok : coN c (s : Int) kd x3 x4 x5 = 0) (hs3 : (s : Int) < c 3) (hk : ¬ kd < 6) (Ed : EdSk B h Q al dn s h' (fun h3 w => h' = coH h3 w (c (skA s + 479)).toNat kd x3 x4 x5 y)) :
    ∃ q, hv h' (B + 149) 19 = rf q ∧ SksR B nv (cnC c s (c (skA s + 479)).toNat kd x3 x4 x5) h' q := by
  refine R.coE_ M n40 I hs ok hs3 hi_cn (fun nk enk => ?_) Ed
  have la : coA s nk = skA s + 480 + 66 * nk := rfl
  rw [enk, tn]
  obtain ⟨c0, c1, c2, c3, c4, c5, c6⟩ := cn_cells (c := c) (s := s) (nk := nk) (kd := kd) (x3 := x3) (x4 := x4) (x5 := x5) (by omega)
  exact ⟨fun z h1 h2 => c0 z h1 (by omega), c1, c2, c3, c4, c5, c6, fun h3 w S k32 _ ast => S.cnN n40 I k32 enk hk ast⟩
/-- a constraint with a number on both sides -/
theorem SksR.coT_ {X : Dn} {N : Nat → Bool} {p : Nat} (R : SksR B nv c h (Q dn)) (M : MRg B h Q al dn tt) (n40 : nv ≤ 40) (I : NmI c nv) (hs : s < 6) (ok : coN c (s : Int) kd x3 x4 x5 = 0) (hs3 : (s : Int) < c 3) (hm : m ≤ 240) (hb : ∀ i, i < m → -128 ≤ b i ∧ b i < 128) (hu : ∀ i, ub i = b i % 256) (r : txW c nv nc b ub m = .inr (X, N, p)) (A : AstI (B + 246) 240 h y X N) (Ed : EdSk B h Q al dn s h' (fun h3 w => h' = coH h3 w (c (skA s + 479)).toNat kd x3 x4 x5 y)) :
    ∃ q, hv h' (B + 149) 19 = rf q ∧ SksR B nv (txt (cnC c s (c (skA s + 479)).toNat kd x3 x4 x5) (coA s (c (skA s + 479)).toNat + 5) b m) h' q := by
  refine R.coE_ M n40 I hs ok hs3 hi_cnt (fun nk enk => ?_) Ed
  have la : coA s nk = skA s + 480 + 66 * nk := rfl
  rw [enk, tn]
  obtain ⟨c0, c1, c2, c3, c4, c5, c6⟩ := cn_cells (c := c) (s := s) (nk := nk) (kd := kd) (x3 := x3) (x4 := x4) (x5 := x5) (by omega)
  refine ⟨fun z h1 h2 => by rw [txt_out hm (by omega)]; exact c0 z h1 (by omega), ?_, ?_, ?_, ?_, ?_, ?_, fun h3 w S k32 a0 ast => S.cnT n40 I k32 enk hm hb hu r (a0 _ _ _ A) ast⟩
  · rw [txt_out hm (by omega)]; exact c1
  · rw [txt_out hm (by omega)]; exact c2
  · rw [txt_out hm (by omega)]; exact c3
  · rw [txt_out hm (by omega)]; exact c4
  · rw [txt_out hm (by omega)]; exact c5
  · rw [txt_out hm (by omega)]; exact c6
end AFTER4
