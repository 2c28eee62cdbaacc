/-! L3: loops: plain law -/
noncomputable section LOOPP
variable {lv S : Nat → Bool} {U0 V0 U1 V1 : Nat → Int} {u v p q : Int} {a k m x l : Nat}
/-- a place is that one -/
def wh2 (p q u v : Int) : Nat := if p = u ∧ q = v then 1 else 0
/-- ends at a place -/
def dgE (S : Nat → Bool) (U0 V0 U1 V1 : Nat → Int) (u v : Int) : Nat := sumN (enF S U0 V0 U1 V1 u v) 24
def insB (S : Nat → Bool) (a : Nat) : Nat → Bool := fun i => S i || decide (i = a)
theorem insB_t : insB S a x = true ↔ S x = true ∨ x = a := by unfold insB; rw [Bool.or_eq_true, decide_eq_true_eq]
theorem insB_f (h : insB S a x = false) : S x = false ∧ x ≠ a := by
  unfold insB at h
  rw [Bool.or_eq_false_iff, decide_eq_false_iff_not] at h
  exact h
theorem wh2_1 : wh2 p q p q = 1 := if_pos ⟨rfl, rfl⟩
theorem end_1 (h : endP (U0 m) (V0 m) (U1 m) (V1 m) p q) : 1 ≤ wh2 (U0 m) (V0 m) p q + wh2 (U1 m) (V1 m) p q := by
  rcases h with ⟨h1, h2⟩ | ⟨h1, h2⟩ <;> rw [h1, h2, wh2_1] <;> omega
theorem end_0 (h : ¬ endP (U0 m) (V0 m) (U1 m) (V1 m) p q) : wh2 (U0 m) (V0 m) p q + wh2 (U1 m) (V1 m) p q = 0 := by
  unfold wh2
  rw [if_neg (fun z => h (Or.inl z)), if_neg (fun z => h (Or.inr z))]
theorem enF_is : enF S U0 V0 U1 V1 u v k = if S k = true then wh2 (U0 k) (V0 k) u v + wh2 (U1 k) (V1 k) u v else 0 := rfl
theorem dgE_ins (hm : m < 24) (h : S m = false) : dgE (insB S m) U0 V0 U1 V1 p q = dgE S U0 V0 U1 V1 p q + (wh2 (U0 m) (V0 m) p q + wh2 (U1 m) (V1 m) p q) := by
  unfold dgE
  have e : ∀ i, i < 24 → enF (insB S m) U0 V0 U1 V1 p q i = enF S U0 V0 U1 V1 p q i + (if i = m then wh2 (U0 m) (V0 m) p q + wh2 (U1 m) (V1 m) p q else 0) := fun i _ => by
    rw [enF_is, enF_is]
    by_cases e : i = m
    · rw [e, if_pos (insB_t.mpr (Or.inr rfl)), if_pos rfl, if_neg (by rw [h]; exact Bool.false_ne_true), Nat.zero_add]
    · rw [if_neg e, Nat.add_zero]
      by_cases s : S i = true
      · rw [if_pos s, if_pos (insB_t.mpr (Or.inl s))]
      · rw [if_neg s, if_neg (fun z => (insB_t.mp z).elim s e)]
  rw [sumN_congr 24 e, sumN_add, sumN_pick (k := m) 24 hm (fun i _ hi => if_neg hi), if_pos rfl]
theorem dgE_le (h : ∀ i, S i = true → lv i = true) : dgE S U0 V0 U1 V1 p q ≤ dgE lv U0 V0 U1 V1 p q := sumN_le 24 (fun i _ => by
  rw [enF_is, enF_is]
  by_cases s : S i = true
  · rw [if_pos s, if_pos (h i s)]; exact Nat.le_refl _
  · rw [if_neg s]; exact Nat.zero_le _)
theorem dgE_ex (h : dgE S U0 V0 U1 V1 p q < dgE lv U0 V0 U1 V1 p q) : ∃ m, m < 24 ∧ lv m = true ∧ S m = false ∧ endP (U0 m) (V0 m) (U1 m) (V1 m) p q := by
  refine Classical.byContradiction (fun no => ?_)
  have : dgE lv U0 V0 U1 V1 p q ≤ dgE S U0 V0 U1 V1 p q := sumN_le 24 (fun i hi => by
    rw [enF_is, enF_is]
    by_cases s : lv i = true
    · rw [if_pos s]
      by_cases z : S i = true
      · rw [if_pos z]; exact Nat.le_refl _
      · rw [if_neg z, end_0 (fun y => no ⟨i, hi, s, Bool.eq_false_iff.mpr z, y⟩)]
        exact Nat.le_refl _
    · rw [if_neg s]; exact Nat.zero_le _)
  omega
theorem dgE_three (h1 : a < 24) (h2 : m < 24) (h3 : x < 24) (l1 : lv a = true) (l2 : lv m = true) (l3 : lv x = true) (e1 : endP (U0 a) (V0 a) (U1 a) (V1 a) p q) (e2 : endP (U0 m) (V0 m) (U1 m) (V1 m) p q) (e3 : endP (U0 x) (V0 x) (U1 x) (V1 x) p q) (n1 : a ≠ m) (n2 : a ≠ x) (n3 : m ≠ x) : 3 ≤ dgE lv U0 V0 U1 V1 p q := by
  have s1 : insB (fun _ => false) a m = false := by
    unfold insB
    rw [decide_eq_false (fun z => n1 z.symm)]; rfl
  have s2 : insB (insB (fun _ => false) a) m x = false := by
    unfold insB
    rw [decide_eq_false (fun z => n2 z.symm), decide_eq_false (fun z => n3 z.symm)]; rfl
  have b := dgE_le (U0 := U0) (V0 := V0) (U1 := U1) (V1 := V1) (p := p) (q := q) (S := insB (insB (insB (fun _ => false) a) m) x) (lv := lv) (fun i hi => by
    rcases insB_t.mp hi with hi | hi
    · rcases insB_t.mp hi with hi | hi
      · rcases insB_t.mp hi with hi | hi
        · cases hi
        · rw [hi]; exact l1
      · rw [hi]; exact l2
    · rw [hi]; exact l3)
  rw [dgE_ins h3 s2, dgE_ins h2 s1, dgE_ins h1 rfl] at b
  have := end_1 e1
  have := end_1 e2
  have := end_1 e3
  omega
/-- lines that go round: no step is none, two ends at each place -/
def GrP (lv : Nat → Bool) (U0 V0 U1 V1 : Nat → Int) : Prop := ∀ k, lv k = true → (k < 24 ∧ ¬ (U0 k = U1 k ∧ V0 k = V1 k)) ∧ dgE lv U0 V0 U1 V1 (U0 k) (V0 k) = 2 ∧ dgE lv U0 V0 U1 V1 (U1 k) (V1 k) = 2
theorem GrP.two (G : GrP lv U0 V0 U1 V1) (lk : lv k = true) (e : endP (U0 k) (V0 k) (U1 k) (V1 k) p q) : dgE lv U0 V0 U1 V1 p q = 2 := by
  rcases e with ⟨h1, h2⟩ | ⟨h1, h2⟩
  · rw [← h1, ← h2]; exact (G k lk).2.1
  · rw [← h1, ← h2]; exact (G k lk).2.2
/-- two lines that have an end in common; lines of one loop -/
def AdjL (lv : Nat → Bool) (U0 V0 U1 V1 : Nat → Int) (a b : Nat) : Prop := lv a = true ∧ lv b = true ∧ ∃ u v, endP (U0 a) (V0 a) (U1 a) (V1 a) u v ∧ endP (U0 b) (V0 b) (U1 b) (V1 b) u v
def ConL (lv : Nat → Bool) (U0 V0 U1 V1 : Nat → Int) (a b : Nat) : Prop := ∀ T : Nat → Prop, (∀ i j, AdjL lv U0 V0 U1 V1 i j → T i → T j) → T a → T b
theorem ConL.rf : ConL lv U0 V0 U1 V1 a a := fun _ _ h => h
theorem ConL.tr (h1 : ConL lv U0 V0 U1 V1 a m) (h2 : ConL lv U0 V0 U1 V1 m x) : ConL lv U0 V0 U1 V1 a x := fun T hT h => h2 T hT (h1 T hT h)
theorem AdjL.sym (h : AdjL lv U0 V0 U1 V1 a m) : AdjL lv U0 V0 U1 V1 m a := by
  obtain ⟨h1, h2, u, v, h3, h4⟩ := h
  exact ⟨h2, h1, u, v, h4, h3⟩
theorem AdjL.con (h : AdjL lv U0 V0 U1 V1 a m) : ConL lv U0 V0 U1 V1 a m := fun _ hT z => hT a m h z
theorem ConL.sym (h : ConL lv U0 V0 U1 V1 a m) : ConL lv U0 V0 U1 V1 m a := h (fun y => ConL lv U0 V0 U1 V1 y a) (fun _ _ hij z => hij.sym.con.tr z) ConL.rf
theorem ConL.live (h : ConL lv U0 V0 U1 V1 a m) (ha : lv a = true) : lv m = true := h (fun y => lv y = true) (fun _ _ hij _ => hij.2.1) ha
/-- the first line of its loop -/
def lstP (lv : Nat → Bool) (U0 V0 U1 V1 : Nat → Int) (k : Nat) : Prop := lv k = true ∧ ∀ i, i < k → lv i = true → ¬ ConL lv U0 V0 U1 V1 i k
def lsB (lv : Nat → Bool) (U0 V0 U1 V1 : Nat → Int) (k : Nat) : Bool := @decide (lstP lv U0 V0 U1 V1 k) (Classical.propDecidable _)
theorem lsB_t : lsB lv U0 V0 U1 V1 k = true ↔ lstP lv U0 V0 U1 V1 k := by unfold lsB; exact @decide_eq_true_iff _ (Classical.propDecidable _)
theorem lead : ∀ i, lv i = true → ∃ l, l ≤ i ∧ lstP lv U0 V0 U1 V1 l ∧ ConL lv U0 V0 U1 V1 l i := fun i => Nat.strongRecOn i (fun i ih li => by
  by_cases z : lstP lv U0 V0 U1 V1 i
  · exact ⟨i, Nat.le_refl i, z, ConL.rf⟩
  · obtain ⟨j, hj, lj, cj⟩ : ∃ j, j < i ∧ lv j = true ∧ ConL lv U0 V0 U1 V1 j i := by
      refine Classical.byContradiction (fun no => z ⟨li, fun j hj lj cj => no ⟨j, hj, lj, cj⟩⟩)
    obtain ⟨l, h1, h2, h3⟩ := ih j hj lj
    exact ⟨l, by omega, h2, h3.tr cj⟩)
theorem lst_uniq (h1 : lstP lv U0 V0 U1 V1 a) (h2 : lstP lv U0 V0 U1 V1 k) (c1 : ConL lv U0 V0 U1 V1 a m) (c2 : ConL lv U0 V0 U1 V1 k m) : a = k := by
  rcases (by omega : a < k ∨ a = k ∨ k < a) with z | z | z
  · exact absurd (c1.tr c2.sym) (h2.2 a z h1.1)
  · exact z
  · exact absurd (c2.tr c1.sym) (h1.2 k z h2.1)
/-- where one comes out, gone in there -/
def exU (U0 V0 U1 : Nat → Int) (m : Nat) (u v : Int) : Int := if U0 m = u ∧ V0 m = v then U1 m else U0 m
def exV (U0 V0 V1 : Nat → Int) (m : Nat) (u v : Int) : Int := if U0 m = u ∧ V0 m = v then V1 m else V0 m
theorem ex_sum (h : endP (U0 m) (V0 m) (U1 m) (V1 m) u v) : wh2 (U0 m) (V0 m) p q + wh2 (U1 m) (V1 m) p q = wh2 u v p q + wh2 (exU U0 V0 U1 m u v) (exV U0 V0 V1 m u v) p q := by
  unfold exU exV
  by_cases z : U0 m = u ∧ V0 m = v
  · rw [if_pos z, if_pos z, z.1, z.2]
  · rw [if_neg z, if_neg z]
    rcases h with h | h
    · exact absurd h z
    · rw [h.1, h.2, Nat.add_comm]
theorem ex_end (h : endP (U0 m) (V0 m) (U1 m) (V1 m) u v) : endP (U0 m) (V0 m) (U1 m) (V1 m) (exU U0 V0 U1 m u v) (exV U0 V0 V1 m u v) := by
  unfold exU exV
  by_cases z : U0 m = u ∧ V0 m = v
  · rw [if_pos z, if_pos z]; exact Or.inr ⟨rfl, rfl⟩
  · rw [if_neg z, if_neg z]; exact Or.inl ⟨rfl, rfl⟩
/-- on the way round from the start of line k: lines S, the last of them a, now at u, v -/
def TrI (lv : Nat → Bool) (U0 V0 U1 V1 : Nat → Int) (S : Nat → Bool) (a : Nat) (u v : Int) (k : Nat) : Prop := (∀ m, S m = true → lv m = true ∧ ConL lv U0 V0 U1 V1 k m) ∧ (S a = true ∧ S k = true ∧ endP (U0 a) (V0 a) (U1 a) (V1 a) u v) ∧ (∀ p q, (dgE S U0 V0 U1 V1 p q + wh2 (U0 k) (V0 k) p q + wh2 u v p q) % 2 = 0) ∧ (a = k → u = U1 k ∧ v = V1 k)
theorem dgE_0 : dgE (fun _ => false) U0 V0 U1 V1 p q = 0 := by
  have b := sumN_le (f := enF (fun _ => false) U0 V0 U1 V1 p q) (g := fun _ => 0) 24 (fun i _ => Nat.le_refl 0)
  rw [sumN_c] at b
  exact Nat.le_antisymm (by unfold dgE; omega) (Nat.zero_le _)
theorem TrI.start (G : GrP lv U0 V0 U1 V1) (lk : lv k = true) : TrI lv U0 V0 U1 V1 (insB (fun _ => false) k) k (U1 k) (V1 k) k := by
  refine ⟨fun m hm => ?_, ⟨insB_t.mpr (Or.inr rfl), insB_t.mpr (Or.inr rfl), Or.inr ⟨rfl, rfl⟩⟩, fun p q => ?_, fun _ => ⟨rfl, rfl⟩⟩
  · rcases insB_t.mp hm with z | z
    · cases z
    · rw [z]; exact ⟨lk, ConL.rf⟩
  · rw [dgE_ins (G k lk).1.1 rfl, dgE_0]
    omega
theorem TrI.next (G : GrP lv U0 V0 U1 V1) (I : TrI lv U0 V0 U1 V1 S a u v k) (ne : ¬ (u = U0 k ∧ v = V0 k)) : ∃ m, lv m = true ∧ S m = false ∧ endP (U0 m) (V0 m) (U1 m) (V1 m) u v ∧ ∀ x, lv x = true → endP (U0 x) (V0 x) (U1 x) (V1 x) u v → x = a ∨ x = m := by
  obtain ⟨I1, ⟨I2, I3, I4⟩, I5, I6⟩ := I
  have la := (I1 a I2).1
  have t2 := G.two la I4
  have par := I5 u v
  rw [wh2_1, show wh2 (U0 k) (V0 k) u v = 0 from if_neg (fun z => ne ⟨z.1.symm, z.2.symm⟩)] at par
  have le := dgE_le (U0 := U0) (V0 := V0) (U1 := U1) (V1 := V1) (p := u) (q := v) (fun i hi => (I1 i hi).1)
  obtain ⟨m, hm, lm, sm, em⟩ := dgE_ex (S := S) (lv := lv) (U0 := U0) (V0 := V0) (U1 := U1) (V1 := V1) (p := u) (q := v) (by omega)
  refine ⟨m, lm, sm, em, fun x lx ex => ?_⟩
  rcases Classical.em (x = a) with z | z
  · exact Or.inl z
  · rcases Classical.em (x = m) with y | y
    · exact Or.inr y
    · have := dgE_three (G a la).1.1 hm (G x lx).1.1 la lm lx I4 em ex (fun w => by rw [w, sm] at I2; cases I2) (fun w => z w.symm) (fun w => y w.symm)
      omega
theorem TrI.step (G : GrP lv U0 V0 U1 V1) (I : TrI lv U0 V0 U1 V1 S a u v k) (lm : lv m = true) (sm : S m = false) (em : endP (U0 m) (V0 m) (U1 m) (V1 m) u v) : TrI lv U0 V0 U1 V1 (insB S m) m (exU U0 V0 U1 m u v) (exV U0 V0 V1 m u v) k := by
  obtain ⟨I1, ⟨I2, I3, I4⟩, I5, I6⟩ := I
  refine ⟨fun y hy => ?_, ⟨insB_t.mpr (Or.inr rfl), insB_t.mpr (Or.inl I3), ex_end em⟩, fun p q => ?_, fun z => ?_⟩
  · rcases insB_t.mp hy with z | z
    · exact I1 y z
    · rw [z]
      exact ⟨lm, (I1 a I2).2.tr (AdjL.con ⟨(I1 a I2).1, lm, u, v, I4, em⟩)⟩
  · have := I5 p q
    rw [dgE_ins (G m lm).1.1 sm, ex_sum em]
    omega
  · rw [z, I3] at sm; cases sm
theorem TrI.fin (G : GrP lv U0 V0 U1 V1) (I : TrI lv U0 V0 U1 V1 S a u v k) (eu : u = U0 k) (ev_ : v = V0 k) : a ≠ k ∧ (∀ x, lv x = true → endP (U0 x) (V0 x) (U1 x) (V1 x) u v → x = a ∨ x = k) ∧ ∀ x, ConL lv U0 V0 U1 V1 k x ↔ S x = true := by
  obtain ⟨I1, ⟨I2, I3, I4⟩, I5, I6⟩ := I
  have la := (I1 a I2).1
  have lk := (I1 k I3).1
  have nak : a ≠ k := fun z => by
    obtain ⟨h1, h2⟩ := I6 z
    exact (G k lk).1.2 ⟨eu.symm.trans h1, ev_.symm.trans h2⟩
  have ek : endP (U0 k) (V0 k) (U1 k) (V1 k) u v := Or.inl ⟨eu.symm, ev_.symm⟩
  refine ⟨nak, fun x lx ex => ?_, fun x => ⟨fun c => ?_, fun s => (I1 x s).2⟩⟩
  · rcases Classical.em (x = a) with z | z
    · exact Or.inl z
    · rcases Classical.em (x = k) with y | y
      · exact Or.inr y
      · have := dgE_three (G a la).1.1 (G k lk).1.1 (G x lx).1.1 la lk lx I4 ek ex nak (fun w => z w.symm) (fun w => y w.symm)
        have := G.two la I4
        omega
  · refine c (fun y => S y = true) (fun i j hij si => ?_) I3
    obtain ⟨li, lj, p, q, ei, ej⟩ := hij
    refine Classical.byContradiction (fun sj => ?_)
    have sj' : S j = false := Bool.eq_false_iff.mpr sj
    have t2 := G.two li ei
    have par := I5 p q
    rw [← eu, ← ev_] at par
    have b1 := dgE_le (U0 := U0) (V0 := V0) (U1 := U1) (V1 := V1) (p := p) (q := q) (S := insB S j) (lv := lv) (fun y hy => by
      rcases insB_t.mp hy with z | z
      · exact (I1 y z).1
      · rw [z]; exact lj)
    rw [dgE_ins (G j lj).1.1 sj'] at b1
    have := end_1 ej
    have b2 := dgE_le (U0 := U0) (V0 := V0) (U1 := U1) (V1 := V1) (p := p) (q := q) (S := insB (fun _ => false) i) (lv := S) (fun y hy => by
      rcases insB_t.mp hy with z | z
      · cases z
      · rw [z]; exact si)
    rw [dgE_ins (G i li).1.1 rfl, dgE_0] at b2
    have := end_1 ei
    omega
theorem cnt_ins (hm : m < 24) (h : S m = false) : cntN (insB S m) 24 = cntN S 24 + 1 := by
  unfold insB
  rw [cntN_set h, if_pos hm]
end LOOPP
