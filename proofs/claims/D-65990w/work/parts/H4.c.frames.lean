/-! L3: frames of what looks at faces, step by step -/
noncomputable section FRZ
variable {gv : Nat → Int} {B n d a pc cap kc mm i : Nat} {h q t : AH} {S T : Nat → Bool} {ka F mk : Nat → Nat} {W W' : Nat → Nat → Prop}
/-- the lists of faces are those of before, or new -/
def hoF (B : Nat) (h q : AH) : Prop := (∀ c, c < hnx h → hv q (B + 82) 3 = rf c → hv h (B + 82) 3 = rf c) ∧ ∀ j c, j < 6 → c < hnx h → hv q (B + 82) (7 + j) = rf c → hv h (B + 82) (7 + j) = rf c
/-- a solid that no place but faces' own holds -/
def soZ (B n : Nat) (h : AH) (c : Nat) : Prop := B + 246 ≤ c ∧ hk h c = (3, 24 * n * n) ∧ ∀ i, i < 39 → (i < 33 ∨ 36 < i) → rgV B h i ≠ rf c
def FdZ (B n : Nat) (h : AH) : Nat → Nat → Prop := fun c k => c = B + 82 ∨ nbW B c k ∨ c = B + 83 ∨ ((c = B + 112 ∨ c = B + 113) ∧ k < 4096) ∨ hv h (B + 82) 3 = rf c ∨ (∃ j, j < 6 ∧ hv h (B + 82) (7 + j) = rf c) ∨ soZ B n h c
def FaX (B n : Nat) (W : Nat → Nat → Prop) (h q : AH) : Prop := ExG (fun c k => W c k ∨ FdZ B n h c k) h q ∧ hoF B h q
theorem FdZ_lo {c k : Nat} (fc : FcN B n h pc cap ka kc) (z : FdZ B n h c k) : (c = B + 36 ∧ k = 17) ∨ (B + 47 ≤ c ∧ c ≤ B + 50) ∨ (B + 82 ≤ c ∧ c ≤ B + 90) ∨ ((c = B + 112 ∨ c = B + 113) ∧ k < 4096) ∨ B + 246 ≤ c := by
  obtain ⟨-, -, -, -, ⟨p1, p2, p3, p4, p5, -⟩, ⟨k1, k2, k3⟩, k4⟩ := fc
  rcases z with z | z | z | z | z | ⟨j, hj, z⟩ | z
  · omega
  · unfold nbW at z; omega
  · omega
  · omega
  · rw [p1] at z
    have : pc = c := by unfold rf at z; omega
    omega
  · obtain ⟨q1, q2, q3, q4⟩ := k1 j hj
    rw [q1] at z
    have : ka j = c := by unfold rf at z; omega
    omega
  · have := z.1; omega
/-- the places of other solids -/
theorem rg_oth : ∀ i : Fin 39, ((i : Nat) < 33 ∨ 36 < (i : Nat)) → rgC i = 27 ∨ rgC i = 53 ∨ rgC i = 93 ∨ rgC i = 94 ∨ rgC i = 81 := by decide +kernel
theorem FaX.rg (x : FaX B n W h q) (fc : FcN B n h pc cap ka kc) (hb : B + 246 ≤ hnx h) (hW : ∀ i, i < 39 → (i < 33 ∨ 36 < i) → ¬ W (B + rgC i) (rgK i)) (hi : i < 39) (ho : i < 33 ∨ 36 < i) : rgV B q i = rgV B h i := by
  have r := rg_oth ⟨i, hi⟩ ho
  have r : rgC i = 27 ∨ rgC i = 53 ∨ rgC i = 93 ∨ rgC i = 94 ∨ rgC i = 81 := r
  exact x.1.at _ (by omega) (fun z => by
    rcases z with z | z
    · exact hW i hi ho z
    · have := FdZ_lo fc z; omega)
theorem FaX.tr (x : FaX B n W h q) (y : FaX B n W q t) (fc : FcN B n h pc cap ka kc) (hb : B + 246 ≤ hnx h) (hW : ∀ i, i < 39 → (i < 33 ∨ 36 < i) → ¬ W (B + rgC i) (rgK i)) : FaX B n W h t := by
  have nx := x.1.2.2.1
  refine ⟨x.1.tr y.1 (fun c k hc z => ?_), fun c hc e => x.2.1 c hc (y.2.1 c (by omega) e), fun j c hj hc e => x.2.2 j c hj hc (y.2.2 j c hj (by omega) e)⟩
  rcases z with z | z
  · exact Or.inl z
  refine Or.inr ?_
  rcases z with z | z | z | z | z | ⟨j, hj, z⟩ | ⟨z1, z2, z3⟩
  · exact Or.inl z
  · exact Or.inr (Or.inl z)
  · exact Or.inr (Or.inr (Or.inl z))
  · exact Or.inr (Or.inr (Or.inr (Or.inl z)))
  · exact Or.inr (Or.inr (Or.inr (Or.inr (Or.inl (x.2.1 c hc z)))))
  · exact Or.inr (Or.inr (Or.inr (Or.inr (Or.inr (Or.inl ⟨j, hj, x.2.2 j c hj hc z⟩)))))
  · exact Or.inr (Or.inr (Or.inr (Or.inr (Or.inr (Or.inr ⟨z1, by rw [← x.1.hk hc]; exact z2, fun i hi ho => by rw [← x.rg fc hb hW hi ho]; exact z3 i hi ho⟩)))))
theorem FaX.sub (x : FaX B n W h q) (hs : ∀ c k, W c k → W' c k) : FaX B n W' h q := ⟨x.1.sub (fun c k _ z => z.imp (hs c k) id), x.2⟩
theorem FaX.agr (g : Agr W h q) (h82 : ∀ k, ¬ W (B + 82) k) : FaX B n W h q := ⟨g.ext.exg.sub (fun c k _ z => Or.inl z), fun c _ e => by rw [← g.at _ _ (h82 3)]; exact e, fun j c _ _ e => by rw [← g.at _ _ (h82 (7 + j))]; exact e⟩
theorem fdW_Z {c k : Nat} (fc : FcN B n h pc cap ka kc) (z : FdW B h c k) : FdZ B n h c k := by
  have R := fc.2.2.2.1
  rcases z with z | z | z | ⟨f, hf, z⟩ | z | z
  · exact Or.inl z
  · exact Or.inr (Or.inl z)
  · exact Or.inr (Or.inr (Or.inl z))
  · refine Or.inr (Or.inr (Or.inr (Or.inr (Or.inr (Or.inr ?_)))))
    rcases R.1 (33 + f) (by omega) with y | ⟨e, y1, y2, y3, y4⟩
    · rw [rgV_e hf, z] at y; have := rf_pos c; omega
    · rw [rgV_e hf, z] at y1
      have ec : c = e := by unfold rf at y1; omega
      subst ec
      refine ⟨y2, y4, fun i hi ho w => ?_⟩
      have := R.2 i (33 + f) hi (by omega) (by omega) (by rw [w, rgV_e hf, z])
      rw [w] at this
      have := rf_pos c; omega
  · exact Or.inr (Or.inr (Or.inr (Or.inr (Or.inl z))))
  · exact Or.inr (Or.inr (Or.inr (Or.inr (Or.inr (Or.inl z)))))
/-- finding faces -/
theorem FaX.find {pc' cap' kc' : Nat} {ka' : Nat → Nat} (fc : FcN B n h pc cap ka kc) (fc' : FcN B n q pc' cap' ka' kc') (o1 : hnx h ≤ pc' ∨ hv h (B + 82) 3 = rf pc') (o2 : ∀ j, j < 6 → hnx h ≤ ka' j ∨ hv h (B + 82) (7 + j) = rf (ka' j)) (g : ExG (ffW B h) h q) : FaX B n W h q := by
  refine ⟨g.sub (fun c k _ z => Or.inr ?_), fun c hc e => ?_, fun j c hj hc e => ?_⟩
  · rcases z with z | z
    · exact fdW_Z fc z
    · exact Or.inr (Or.inr (Or.inr (Or.inl z)))
  · have e1 : hv q (B + 82) 3 = rf pc' := fc'.2.2.2.2.1.1
    have ec : c = pc' := by rw [e1] at e; unfold rf at e; omega
    subst ec
    rcases o1 with z | z
    · omega
    · exact z
  · have e1 : hv q (B + 82) (7 + j) = rf (ka' j) := (fc'.2.2.2.2.2.1.1 j hj).1
    have ec : c = ka' j := by rw [e1] at e; unfold rf at e; omega
    rcases o2 j hj with z | z
    · omega
    · rw [ec]; exact z
/-- looking once more -/
theorem FaX.look {pc' cap' : Nat} (fc : FcN B n h pc cap ka kc) (fc' : FcN B n q pc' cap' ka kc) (o1 : hnx h ≤ pc' ∨ hv h (B + 82) 3 = rf pc') (g : ExG (lokW B h) h q) (hW : ∀ c k, c = B + 114 ∨ (c = B + 92 ∧ 45 ≤ k ∧ k ≤ 48) → W c k) : FaX B n W h q := by
  refine ⟨g.sub (fun c k _ z => ?_), fun c hc e => ?_, fun j c hj hc e => ?_⟩
  · rcases z with z | z
    · exact Or.inr (fdW_Z fc z)
    · exact Or.inl (hW c k z)
  · have e1 : hv q (B + 82) 3 = rf pc' := fc'.2.2.2.2.1.1
    have ec : c = pc' := by rw [e1] at e; unfold rf at e; omega
    subst ec
    rcases o1 with z | z
    · omega
    · exact z
  · rw [(fc'.2.2.2.2.2.1.1 j hj).1] at e
    rw [(fc.2.2.2.2.2.1.1 j hj).1]; exact e
/-- another place's solid is no place that is written -/
theorem FdZ.no {k : Nat} (fc : FcN B n h pc cap ka kc) (hi : i < 39) (ho : i < 33 ∨ 36 < i) (e : rgV B h i = rf a) : ¬ FdZ B n h a k := by
  intro z
  have R := fc.2.2.2.1
  obtain ⟨y2, y3, y4⟩ : B + 246 ≤ a ∧ a < hnx h ∧ hk h a = (3, 24 * n * n) := by
    rcases R.1 i hi with y | ⟨e', y1, y2, y3, y4⟩
    · rw [e] at y; have := rf_pos a; omega
    · rw [e] at y1
      have : a = e' := by unfold rf at y1; omega
      rw [this]; exact ⟨y2, y3, y4⟩
  rcases z with z | z | z | z | z | ⟨j, hj, z⟩ | z
  · omega
  · unfold nbW at z; omega
  · omega
  · omega
  · have p := fc.2.2.2.2.1
    have e1 := p.1
    rw [z] at e1
    have : a = pc := by unfold rf at e1; omega
    have k2 := p.2.2.1
    rw [← this, y4] at k2
    exact absurd (congrArg Prod.fst k2) (by show ¬ (3 : Nat) = 2; decide)
  · have p := fc.2.2.2.2.2.1.1 j hj
    have e1 := p.1
    rw [z] at e1
    have : a = ka j := by unfold rf at e1; omega
    have k2 := p.2.1
    rw [← this, y4] at k2
    exact absurd (congrArg Prod.fst k2) (by show ¬ (3 : Nat) = 2; decide)
  · exact z.2.2 i hi ho e
theorem ExG.sg (g : ExG W h q) (s : SG n h a S) (ha : a < hnx h) (hW : ∀ k, ¬ W a k) : SG n q a S := s.ext (g.ext (c := hnx q - hnx h) (s := hus q - hus h) (by omega) (by have := g.2.2.2; omega)) ha hW
/-- the solids held elsewhere stay -/
theorem FaX.sg (x : FaX B n W h q) (fc : FcN B n h pc cap ka kc) (hi : i < 39) (ho : i < 33 ∨ 36 < i) (e : rgV B h i = rf a) (s : SG n h a S) (hW : ∀ k, ¬ W a k) : SG n q a S := by
  have R := fc.2.2.2.1
  have ha : a < hnx h := by
    rcases R.1 i hi with y | ⟨e', y1, y2, y3, y4⟩
    · rw [e] at y; have := rf_pos a; omega
    · rw [e] at y1
      have : a = e' := by unfold rf at y1; omega
      omega
  exact x.1.sg s ha (fun k z => by
    rcases z with z | z
    · exact hW k z
    · exact FdZ.no fc hi ho e z)
/-- a place far from faces -/
theorem FaX.at (x : FaX B n W h q) (fc : FcN B n h pc cap ka kc) (hb : B + 246 ≤ hnx h) {c k : Nat} (hc : c < B + 246) (hW : ¬ W c k) (h1 : ¬ (B + 36 ≤ c ∧ c ≤ B + 50)) (h2 : ¬ (B + 82 ≤ c ∧ c ≤ B + 90)) (h3 : ¬ (c = B + 112 ∨ c = B + 113)) : hv q c k = hv h c k :=
  x.1.at _ (by omega) (fun z => by
    rcases z with z | z
    · exact hW z
    · have := FdZ_lo fc z; omega)
theorem cap_3 (p : capO cap) : ∀ x : Nat, cap ≠ 3 * x := fun x e => by unfold capO at p; omega
theorem kc_3 (p : capK kc) : ∀ x : Nat, kc ≠ 3 * x := fun x e => by unfold capK at p; omega
theorem n24_3 : 24 * n * n = 3 * (8 * n * n) := by rw [← Nat.mul_assoc, ← Nat.mul_assoc]
/-- Flood's state stays -/
theorem FaX.fl (x : FaX B n W h q) (fc : FcN B n h pc cap ka kc) (Fl : FlI B n h) (hb : B + 246 ≤ hnx h) (h1 : ∀ k, ¬ W (B + 81) k) (h2 : ∀ a k, FlO B h a → ¬ W a k) : FlI B n q ∧ lzF B n q = lzF B n h ∧ ∀ c, FlO B q c ↔ FlO B h c := by
  have X : Ext (fun c k => W c k ∨ FdZ B n h c k) (hnx q - hnx h) (hus q - hus h) h q := x.1.ext (by omega) (by have := x.1.2.2.2; omega)
  have n81 : ∀ k, ¬ (W (B + 81) k ∨ FdZ B n h (B + 81) k) := fun k z => by
    rcases z with z | z
    · exact h1 k z
    · have := FdZ_lo fc z; omega
  have own : ∀ a k, FlO B h a → ¬ (W a k ∨ FdZ B n h a k) := fun a k o z => by
    rcases z with z | z
    · exact h2 a k o z
    obtain ⟨j, j1, j2, j3⟩ := o
    have p := fc.2.2.2.2.1
    rcases (by omega : j = 2 ∨ j = 3 ∨ j = 4 ∨ j = 5) with e | e | e | e
    · subst e; exact FdZ.no fc (i := 37) (by decide) (Or.inr (by decide)) (by rw [rgV_37]; exact j3) z
    · subst e; exact FdZ.no fc (i := 38) (by decide) (Or.inr (by decide)) (by rw [rgV_38]; exact j3) z
    all_goals
      have kq : hk h a = (2, 24 * n * n) ∨ hk h a = (5, 24 * n * n) := by
        have pa := rf_pos a
        rcases Fl with ⟨f2, f3, f4, f5, -⟩ | ⟨se, fs, qu, qd, hh, ⟨f2, f3, f4, f5⟩, ⟨k1, k2, k3⟩, -⟩
        · subst e; omega
        · subst e
          first
          | (rw [f4] at j3; have ea : a = qu := by (unfold rf at j3; omega)
             rw [ea]; exact Or.inl k2)
          | (rw [f5] at j3; have ea : a = qd := by (unfold rf at j3; omega)
             rw [ea]; exact Or.inr k3)
      have a246 : B + 246 ≤ a := Fl.own ⟨j, j1, j2, j3⟩
      rcases z with z | z | z | z | z | ⟨j', hj, z⟩ | z
      · omega
      · unfold nbW at z; omega
      · omega
      · omega
      · have e1 := p.1
        rw [z] at e1
        have e2 : a = pc := by unfold rf at e1; omega
        have k2 := p.2.2.1
        rw [← e2] at k2
        rcases kq with y | y
        · rw [y] at k2
          have e3 : 24 * n * n = cap := congrArg Prod.snd k2
          exact cap_3 p.2.2.2.2.2.2 (8 * n * n) (by rw [← e3]; exact n24_3)
        · rw [y] at k2
          exact absurd (congrArg Prod.fst k2) (by show ¬ (5 : Nat) = 2; decide)
      · have pp := fc.2.2.2.2.2.1.1 j' hj
        have e1 := pp.1
        rw [z] at e1
        have e2 : a = ka j' := by unfold rf at e1; omega
        have k2 := pp.2.1
        rw [← e2] at k2
        rcases kq with y | y
        · rw [y] at k2
          have e3 : 24 * n * n = kc := congrArg Prod.snd k2
          exact kc_3 fc.2.2.2.2.2.1.2.2 (8 * n * n) (by rw [← e3]; exact n24_3)
        · rw [y] at k2
          exact absurd (congrArg Prod.fst k2) (by show ¬ (5 : Nat) = 2; decide)
      · rcases kq with y | y
        · have z2 := z.2.1; rw [y] at z2; exact absurd (congrArg Prod.fst z2) (by show ¬ (2 : Nat) = 3; decide)
        · have z2 := z.2.1; rw [y] at z2; exact absurd (congrArg Prod.fst z2) (by show ¬ (5 : Nat) = 3; decide)
  obtain ⟨r1, r2⟩ := Fl.ext hb X n81 own
  exact ⟨r1, r2, fun c => FlO.keep hb X n81⟩
end FRZ
