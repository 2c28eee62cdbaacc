/-! L3: what a run must come to, goal first -/
def Ends (o : Option Rs) (Q : Rs → Prop) : Prop := ∃ r, o = some r ∧ Q r
/-- a call returns nothing; a value of a tag -/
def Vd (o : Option Rs) (R : AH → Prop) : Prop := ∃ h', o = some ((0, (9, 0)), h') ∧ R h'
def Vt (t : Nat) (o : Option Rs) (R : Int → AH → Prop) : Prop := ∃ x h', o = some ((0, (t, x)), h') ∧ R x h'
section WP
variable {x y t f : Option Rs} {Q : Rs → Prop} {c : Prop} {a b : Int} {r : Rs}
theorem Ends.eq (e : x = y) (h : Ends y Q) : Ends x Q := by rw [e]; exact h
theorem Ends.sm (h : Q r) : Ends (some r) Q := ⟨r, rfl, h⟩
theorem Ends.g (hc : c) (h : Ends t Q) : Ends (gdC c t) Q := by rw [gdC_pos hc]; exact h
theorem Ends.b0 (h1 : a = b → Ends t Q) (h2 : a ≠ b → Ends f Q) : Ends (brc 0 a b t f) Q := by
  by_cases h : a = b
  · rw [show brc 0 a b t f = t from if_pos h]; exact h1 h
  · rw [show brc 0 a b t f = f from if_neg h]; exact h2 h
theorem Ends.b1 (h1 : a ≠ b → Ends t Q) (h2 : a = b → Ends f Q) : Ends (brc 1 a b t f) Q := by
  by_cases h : a = b
  · rw [show brc 1 a b t f = f from if_pos h]; exact h2 h
  · rw [show brc 1 a b t f = t from if_neg h]; exact h1 h
theorem Ends.b2 (h1 : a < b → Ends t Q) (h2 : b ≤ a → Ends f Q) : Ends (brc 2 a b t f) Q := by
  by_cases h : a < b
  · rw [show brc 2 a b t f = t from if_pos h]; exact h1 h
  · rw [show brc 2 a b t f = f from if_neg h]; exact h2 (Int.not_lt.mp h)
theorem Ends.b3 (h1 : b ≤ a → Ends t Q) (h2 : a < b → Ends f Q) : Ends (brc 3 a b t f) Q := by
  by_cases h : a < b
  · rw [show brc 3 a b t f = f from if_pos h]; exact h2 h
  · rw [show brc 3 a b t f = t from if_neg h]; exact h1 (Int.not_lt.mp h)
theorem Ends.b4 (h1 : b < a → Ends t Q) (h2 : a ≤ b → Ends f Q) : Ends (brc 4 a b t f) Q := by
  by_cases h : b < a
  · rw [show brc 4 a b t f = t from if_pos h]; exact h1 h
  · rw [show brc 4 a b t f = f from if_neg h]; exact h2 (Int.not_lt.mp h)
theorem Ends.b5 (h1 : a ≤ b → Ends t Q) (h2 : b < a → Ends f Q) : Ends (brc 5 a b t f) Q := by
  by_cases h : b < a
  · rw [show brc 5 a b t f = f from if_pos h]; exact h2 h
  · rw [show brc 5 a b t f = t from if_neg h]; exact h1 (Int.not_lt.mp h)
theorem Ends.mono {Q2 : Rs → Prop} (h : Ends x Q) (hq : ∀ r, Q r → Q2 r) : Ends x Q2 := by
  obtain ⟨r, e, q⟩ := h
  exact ⟨r, e, hq r q⟩
/-- a loop, by a measure -/
theorem loop {σ : Type} (m : σ → Nat) (I : σ → Prop) (E : σ → Option Rs) (step : ∀ s, I s → (∀ s', m s' < m s → I s' → Ends (E s') Q) → Ends (E s) Q) (s : σ) (hs : I s) : Ends (E s) Q := by
  have key : ∀ k s, m s = k → I s → Ends (E s) Q := by
    intro k
    induction k using Nat.strongRecOn with
    | _ k ih =>
      intro s hk hI
      exact step s hI (fun s' hs' hI' => ih (m s') (by omega) s' rfl hI')
  exact key _ s rfl hs
end WP
section WPC
variable {gs : Nat → AV} {B n d j pc nx j' : Nat} {L rest av : List AV} {h : AH} {Q : Rs → Prop}
theorem Vd.into {R : AH → Prop} {L' : List AV} {D : Nat} (hd : D + 1 ≤ d) (hl : (entL av).length ≤ pNl PP j) (hL : ent (pNl PP j) av = L') (k : ∀ d, D ≤ d → Ends (ev PP gs B d j 0 L' [] h) (fun r => ∃ h', r = ((0, (9, 0)), h') ∧ R h')) : Vd (cll PP (ev PP gs B) d j av h) R := by
  obtain ⟨d', rfl⟩ : ∃ d', d = d' + 1 := ⟨d - 1, by omega⟩
  obtain ⟨r, e, h', e2, hR⟩ := k d' (by omega)
  refine ⟨h', ?_, hR⟩
  rw [cll_in hl, hL, e, e2]
theorem Vt.into {t : Nat} {R : Int → AH → Prop} {L' : List AV} {D : Nat} (hd : D + 1 ≤ d) (hl : (entL av).length ≤ pNl PP j) (hL : ent (pNl PP j) av = L') (k : ∀ d, D ≤ d → Ends (ev PP gs B d j 0 L' [] h) (fun r => ∃ x h', r = ((0, (t, x)), h') ∧ R x h')) : Vt t (cll PP (ev PP gs B) d j av h) R := by
  obtain ⟨d', rfl⟩ : ∃ d', d = d' + 1 := ⟨d - 1, by omega⟩
  obtain ⟨r, e, x, h', e2, hR⟩ := k d' (by omega)
  refine ⟨x, h', ?_, hR⟩
  rw [cll_in hl, hL, e, e2]
theorem Ends.cv {R : AH → Prop} (l : LX B n h) (hm : mkT j' &&& fxM = 0) (c : Vd (cll PP (ev PP gs B) d j' av h) R) (k : ∀ h', LX B n h' → hnx h ≤ hnx h' → hus h ≤ hus h' → Rel foT (mkT j') h h' → R h' → Ends (ev PP gs B d j nx L rest h') Q) : Ends (aft PP j pc nx L rest (ev PP gs B d j) (cll PP (ev PP gs B) d j' av h)) Q := by
  obtain ⟨h', e, hR⟩ := c
  obtain ⟨⟨m1, m2⟩, rl⟩ := rel_call e
  rw [aft_void e]
  exact k h' (l.rel rl hm m1) m1 m2 rl hR
theorem Ends.ct {t : Nat} {R : Int → AH → Prop} (l : LX B n h) (hm : mkT j' &&& fxM = 0) (ht : ¬ t = 9) (c : Vt t (cll PP (ev PP gs B) d j' av h) R) (k : ∀ x h', LX B n h' → hnx h ≤ hnx h' → hus h ≤ hus h' → Rel foT (mkT j') h h' → R x h' → Ends (ev PP gs B d j nx L ((t, x) :: rest) h') Q) : Ends (aft PP j pc nx L rest (ev PP gs B d j) (cll PP (ev PP gs B) d j' av h)) Q := by
  obtain ⟨x, h', e, hR⟩ := c
  obtain ⟨⟨m1, m2⟩, rl⟩ := rel_call e
  rw [aft_ret e ht]
  exact k x h' (l.rel rl hm m1) m1 m2 rl hR
end WPC
/-- a store into an array that stands fast -/
theorem LX.setS {B n i k t m : Nat} {h : AH} {v : Int} (l : LX B n h) (e : (kindL n)[i]? = some (t + 2, m)) : LX B n (hset h (B + i) k v) := LX.setA (t := t) l (by rw [l.1 i _ e])
