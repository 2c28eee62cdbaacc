/-! L3: solids made when first used: who holds them; the cells to work with; turned, lumps, hollows, clearance -/
def rgC (i : Nat) : Nat := if i < 10 then 27 else if i < 16 then 53 else if i < 21 then 93 else if i < 33 then 94 else if i < 37 then 83 else 81
def rgK (i : Nat) : Nat := if i < 10 then i else if i < 16 then i - 10 else if i < 21 then i - 16 else if i < 33 then i - 21 else if i < 37 then i - 33 else i - 35
/-- what place i holds -/
def rgV (B : Nat) (h : AH) (i : Nat) : Int := hv h (B + rgC i) (rgK i)
def Reg (B n : Nat) (h : AH) : Prop := (∀ i, i < 39 → rgV B h i = 0 ∨ ∃ a, rgV B h i = rf a ∧ B + 246 ≤ a ∧ a < hnx h ∧ hk h a = (3, 24 * n * n)) ∧ ∀ i j, i < 39 → j < 39 → i ≠ j → rgV B h i = rgV B h j → rgV B h i = 0
/-- what may still be made -/
def lzS (B n : Nat) (h : AH) : Nat → Nat
  | 0 => 0
  | i + 1 => lzS B n h i + if rgV B h i = 0 then 24 * n * n else 0
def lzy (B n : Nat) (h : AH) : Nat := lzS B n h 39
theorem rgCK : ∀ i j : Fin 39, rgC i = rgC j → rgK i = rgK j → i = j := by decide +kernel
theorem rgC_lt : ∀ i : Fin 39, rgC i < 149 ∧ 27 ≤ rgC i := by decide +kernel
theorem rg_in : ∀ i : Fin 39, rgC i = 27 ∨ rgC i = 53 ∨ rgC i = 93 ∨ rgC i = 94 ∨ rgC i = 83 ∨ rgC i = 81 := by decide +kernel
theorem rgi {i : Nat} (hi : i < 39) : rgC i = 27 ∨ rgC i = 53 ∨ rgC i = 93 ∨ rgC i = 94 ∨ rgC i = 83 ∨ rgC i = 81 := rg_in ⟨i, hi⟩
section REG
variable {gv : Nat → Int} {B n d i k : Nat} {h t : AH} {W : Nat → Nat → Prop} {c s : Nat}
theorem lzS_same {m : Nat} (e : ∀ i, i < m → rgV B t i = rgV B h i) : lzS B n t m = lzS B n h m := by
  induction m with
  | zero => rfl
  | succ m ih => unfold lzS; rw [ih (fun i hi => e i (by omega)), e m (by omega)]
theorem lzS_put {m : Nat} (hi : i < m) (e : ∀ j, j < m → j ≠ i → rgV B t j = rgV B h j) (h0 : rgV B h i = 0) (h1 : rgV B t i ≠ 0) : lzS B n t m + 24 * n * n = lzS B n h m := by
  induction m with
  | zero => omega
  | succ m ih =>
    unfold lzS
    by_cases z : i = m
    · rw [← z, if_pos h0, if_neg h1, lzS_same (t := t) (h := h) (fun j hj => e j (by omega) (by omega))]
      omega
    · rw [e m (by omega) (by omega)]
      have := ih (by omega) (fun j hj => e j (by omega))
      omega
theorem Reg.ext (R : Reg B n h) (hb : B + 246 ≤ hnx h) (g : Ext W c s h t) (hW : ∀ i, i < 39 → ¬ W (B + rgC i) (rgK i)) : Reg B n t ∧ lzy B n t = lzy B n h := by
  have e : ∀ i, i < 39 → rgV B t i = rgV B h i := fun i hi => by
    have := rgC_lt ⟨i, hi⟩
    exact g.at _ (by show B + rgC i < hnx h; have : rgC i < 149 := this.1; omega) (hW i hi)
  refine ⟨⟨fun i hi => ?_, fun i j hi hj hij z => ?_⟩, lzS_same e⟩
  · rw [e i hi]
    rcases R.1 i hi with z | ⟨a, z1, z2, z3, z4⟩
    · exact Or.inl z
    · exact Or.inr ⟨a, z1, z2, by have := g.2.2.1; omega, by rw [g.hk z3]; exact z4⟩
  · rw [e i hi, e j hj] at z
    rw [e i hi]
    exact R.2 i j hi hj hij z
/-- a new one comes to place i -/
theorem Reg.put (R : Reg B n h) (hb : B + 246 ≤ hnx h) (hi : i < 39) (h0 : rgV B h i = 0) (g : Ext W c s h t) (hW : ∀ j, j < 39 → j ≠ i → ¬ W (B + rgC j) (rgK j)) (e1 : rgV B t i = rf (hnx h)) (e2 : hk t (hnx h) = (3, 24 * n * n)) (e3 : hnx h < hnx t) : Reg B n t ∧ lzy B n t + 24 * n * n = lzy B n h := by
  have e : ∀ j, j < 39 → j ≠ i → rgV B t j = rgV B h j := fun j hj hji => by
    have := rgC_lt ⟨j, hj⟩
    exact g.at _ (by show B + rgC j < hnx h; have : rgC j < 149 := this.1; omega) (hW j hj hji)
  have ne : ∀ j, j < 39 → rgV B h j ≠ rf (hnx h) := fun j hj z => by
    rcases R.1 j hj with y | ⟨a, y1, y2, y3, y4⟩
    · rw [y] at z; have := rf_pos (hnx h); omega
    · rw [y1] at z; unfold rf at z; omega
  refine ⟨⟨fun j hj => ?_, fun j m hj hm hjm z => ?_⟩, lzS_put hi e h0 (by rw [e1]; have := rf_pos (hnx h); omega)⟩
  · by_cases y : j = i
    · rw [y]; exact Or.inr ⟨hnx h, e1, hb, e3, e2⟩
    · rw [e j hj y]
      rcases R.1 j hj with z | ⟨a, z1, z2, z3, z4⟩
      · exact Or.inl z
      · exact Or.inr ⟨a, z1, z2, by have := g.2.2.1; omega, by rw [g.hk z3]; exact z4⟩
  · by_cases y : j = i
    · exfalso
      rw [y, e1, e m hm (by omega)] at z
      exact ne m hm z.symm
    · by_cases y2 : m = i
      · exfalso
        rw [y2, e1, e j hj y] at z
        exact ne j hj z
      · rw [e j hj y, e m hm y2] at z
        rw [e j hj y]
        exact R.2 j m hj hm hjm z
theorem Reg.body (R : Reg B n h) (hk' : k < 10) : bdOK B n k h := by
  have := R.1 k (by omega)
  unfold rgV rgC rgK at this
  rw [if_pos hk', if_pos hk'] at this
  exact this
theorem rgV_b (hk' : k < 10) : rgV B h k = hv h (B + 27) k := by unfold rgV rgC rgK; rw [if_pos hk', if_pos hk']
theorem rgV_s (hk' : k < 6) : rgV B h (10 + k) = hv h (B + 53) k := by unfold rgV rgC rgK; rw [if_neg (by omega), if_pos (by omega), if_neg (by omega), if_pos (by omega), Nat.add_sub_cancel_left]
theorem Reg.apt {is : Nat → Bool} {cl : Nat → Nat} {S : Nat → Nat → Bool} (R : Reg B n h) (b : BdC B n h is cl S) : Apt B n h is cl := fun i k hi hk' e hne z => by
  have e1 := ((b.1 i hi).2 e).1
  have := R.2 k i (by omega) (by omega) hne (by rw [rgV_b hk', rgV_b hi, z, e1])
  rw [rgV_b hk', z] at this
  have := rf_pos (cl i)
  omega
/-- a cell to work with -/
def Scr (B : Nat) (h : AH) (c : Nat) : Prop := ∃ k, k < 6 ∧ hv h (B + 53) k = rf c
/-- the k-th cell to work with is got -/
def Shd (B n k : Nat) (h h' : AH) (s : Nat) : Prop := hv h' (B + 53) k = rf s ∧ B + 246 ≤ s ∧ s < hnx h' ∧ hk h' s = (3, 24 * n * n) ∧ Reg B n h' ∧ hus h' + lzy B n h' = hus h + lzy B n h ∧ hnx h' ≤ hnx h + 1 ∧ Ext (fun c j => c = B + 53 ∧ j = k) 1 (24 * n * n) h h' ∧ (s < hnx h → hv h (B + 53) k = rf s)
theorem c_shR (l : LX B n h) (hd : 11 ≤ d) (hn : n ≤ 52) (hk' : k < 6) (R : Reg B n h) : Vt 2 (cll PP (ev PP (gsF gv) B) d 354 [(2, rf (B + 51)), (0, (k : Int))] h) (fun v h' => ∃ s, v = rf s ∧ Shd B n k h h' s) := by
  have hb := l.2.2
  have k53 : hk h (B + 53) = (7, 6) := l.1 53 _ rfl
  obtain ⟨v, h', e, r⟩ := c_shared (gv := gv) l hd hn hk'
  refine ⟨v, h', e, ?_⟩
  rcases r with ⟨z, ev, eh⟩ | ⟨z, ev, eh⟩
  · rcases R.1 (10 + k) (by omega) with y | ⟨a, y1, y2, y3, y4⟩
    · rw [rgV_s hk'] at y; exact absurd y z
    · rw [rgV_s hk'] at y1
      subst eh
      exact ⟨a, by rw [ev, y1], y1, y2, y3, y4, R, rfl, by omega, Ext.rf, fun _ => y1⟩
  · have X : Ext (fun c j => c = B + 53 ∧ j = k) 1 (24 * n * n) h h' := by rw [eh]; exact Ext.set Ext.new (fun _ => ⟨rfl, rfl⟩)
    have n1 : hnx h' = hnx h + 1 := by rw [eh]; rfl
    have u1 : hus h' = hus h + 24 * n * n := by rw [eh]; rfl
    have e1 : hv h' (B + 53) k = rf (hnx h) := by rw [eh]; exact hv_set_at ..
    have e2 : hk h' (hnx h) = (3, 24 * n * n) := by rw [eh]; show hk (hnew h (3, 24 * n * n) (24 * n * n)) (hnx h) = _; rw [hk_new, if_pos rfl]
    obtain ⟨R', L⟩ := R.put (i := 10 + k) hb (by omega) (by rw [rgV_s hk']; exact z) X (fun j hj hji w => by
      have c1 : rgC (10 + k) = 53 := by unfold rgC; rw [if_neg (by omega), if_pos (by omega)]
      have c2 : rgK (10 + k) = k := by unfold rgK; rw [if_neg (by omega), if_pos (by omega), Nat.add_sub_cancel_left]
      have w1 : B + rgC j = B + 53 := w.1
      have w2 : rgK j = k := w.2
      have := rgCK ⟨j, hj⟩ ⟨10 + k, by omega⟩ (show rgC j = rgC (10 + k) by omega) (show rgK j = rgK (10 + k) by omega)
      exact hji (congrArg Fin.val this)) (by rw [rgV_s hk']; exact e1) e2 (by omega)
    exact ⟨hnx h, ev, e1, hb, by omega, e2, R', by omega, by omega, X, fun z => by omega⟩
/-- both are got -/
def Spd (B n : Nat) (h h' : AH) (s0 s1 : Nat) : Prop := hv h' (B + 0) 29 = rf s0 ∧ hv h' (B + 0) 30 = rf s1 ∧ hv h' (B + 53) 0 = rf s0 ∧ hv h' (B + 53) 1 = rf s1 ∧ (B + 246 ≤ s0 ∧ s0 < hnx h' ∧ hk h' s0 = (3, 24 * n * n) ∧ (s0 < hnx h → Scr B h s0)) ∧ (B + 246 ≤ s1 ∧ s1 < hnx h' ∧ hk h' s1 = (3, 24 * n * n) ∧ (s1 < hnx h → Scr B h s1)) ∧ s0 ≠ s1 ∧ Reg B n h' ∧ hus h' + lzy B n h' = hus h + lzy B n h ∧ hnx h' ≤ hnx h + 2 ∧ Ext (fun c j => (c = B + 53 ∧ j < 2) ∨ (c = B + 0 ∧ (j = 29 ∨ j = 30))) 2 (24 * n * n + 24 * n * n) h h'
theorem rg_0 {j : Nat} (hj : j < 39) : ¬ B + rgC j = B + 0 := fun e => by
  have : 27 ≤ rgC j := (rgC_lt ⟨j, hj⟩).2
  omega
theorem c_needSpare65 (l : LX B n h) (hd : 13 ≤ d) (hn : n ≤ 52) (R : Reg B n h) : Vd (cll PP (ev PP (gsF gv) B) d 65 [(2, rf (B + 0))] h) (fun h' => ∃ s0 s1, Spd B n h h' s0 s1) := by
  have hb := l.2.2
  refine Vd.into (D := 12) hd (Nat.le_of_ble_eq_true rfl) rfl (fun d hd => ?_)
  refine Ends.eq (b65_0 (n := n) (by (repeat' first | assumption | refine LX.setF _ _ ?_ (by decide +kernel) | refine LX.setS ?_ rfl | refine LX.setA ?_ (by first | assumption | omega))) (by first | assumption | omega)) ?_
  refine Ends.ct l (by decide +kernel) (by decide) (c_shR (k := 0) l (by omega) hn (by decide) R) (fun v h1 l1 m1 _ _ ⟨s0, ev, a1, a2, a3, a4, a5, a6, a7, a8, a9⟩ => ?_)
  rw [ev]
  refine Ends.eq (b65_9 (n := n) (by (repeat' first | assumption | refine LX.setF _ _ ?_ (by decide +kernel) | refine LX.setS ?_ rfl | refine LX.setA ?_ (by first | assumption | omega))) (by first | assumption | omega)) ?_
  have l2 : LX B n (hset h1 (B + 0) 29 (rf s0)) := LX.setF 0 29 l1 (by decide +kernel)
  have X2 : Ext (fun c j => c = B + 0 ∧ j = 29) 0 0 h1 (hset h1 (B + 0) 29 (rf s0)) := Ext.rf.set (fun _ => ⟨rfl, rfl⟩)
  obtain ⟨R2, L2⟩ := a5.ext l1.2.2 X2 (fun i hi w => rg_0 hi w.1)
  refine Ends.ct l2 (by decide +kernel) (by decide) (c_shR (k := 1) l2 (by omega) hn (by decide) R2) (fun v3 h3 l3 m3 _ _ ⟨s1, ev3, b1, b2, b3, b4, b5, b6, b7, b8, b9⟩ => ?_)
  rw [ev3]
  refine Ends.eq (b65_21 (n := n) (by (repeat' first | assumption | refine LX.setF _ _ ?_ (by decide +kernel) | refine LX.setS ?_ rfl | refine LX.setA ?_ (by first | assumption | omega))) (by first | assumption | omega)) ?_
  have X4 : Ext (fun c j => c = B + 0 ∧ j = 30) 0 0 h3 (hset h3 (B + 0) 30 (rf s1)) := Ext.rf.set (fun _ => ⟨rfl, rfl⟩)
  obtain ⟨R4, L4⟩ := b5.ext l3.2.2 X4 (fun i hi w => rg_0 hi w.1)
  have n2 : hnx (hset h1 (B + 0) 29 (rf s0)) = hnx h1 := rfl
  have u2 : hus (hset h1 (B + 0) 29 (rf s0)) = hus h1 := rfl
  have n4 : hnx (hset h3 (B + 0) 30 (rf s1)) = hnx h3 := rfl
  have u4 : hus (hset h3 (B + 0) 30 (rf s1)) = hus h3 := rfl
  have hb1 := l1.2.2
  have c1 : hv h3 (B + 53) 0 = rf s0 := by rw [b8.at _ (by omega) (by omega), hv_na (by omega)]; exact a1
  refine Ends.sm ⟨_, rfl, s0, s1, ?_, ?_, ?_, ?_, ⟨a2, by omega, ?_, fun z => ⟨0, by decide, a9 z⟩⟩, ⟨b2, by omega, b4, fun z => ⟨1, by decide, ?_⟩⟩, ?_, R4, by omega, by omega, ?_⟩
  · rw [hv_set_ne (by omega), b8.at _ (by omega) (by omega), hv_set_at]
  · exact hv_set_at ..
  · rw [hv_na (by omega)]; exact c1
  · rw [hv_na (by omega)]; exact b1
  · show hk h3 s0 = _
    rw [b8.hk (by omega)]; exact a4
  · have := b9 (by rw [n2]; omega)
    rw [hv_na (by omega), a8.at _ (by omega) (by omega)] at this
    exact this
  · intro z
    have := b5.2 10 11 (by decide) (by decide) (by decide) (by rw [show rgV B h3 10 = hv h3 (B + 53) 0 from rgV_s (k := 0) (by decide), show rgV B h3 11 = hv h3 (B + 53) 1 from rgV_s (k := 1) (by decide), c1, b1, z])
    rw [show rgV B h3 10 = hv h3 (B + 53) 0 from rgV_s (k := 0) (by decide), c1] at this
    have := rf_pos s0
    omega
  · exact (((a8.sub (fun c j _ w => Or.inl ⟨w.1, by omega⟩) (Nat.le_refl _) (Nat.le_refl _)).set (fun _ => Or.inr ⟨rfl, Or.inl rfl⟩)).tr b8 (fun c j _ w => Or.inl ⟨w.1, by omega⟩)).set (fun _ => Or.inr ⟨rfl, Or.inr rfl⟩)
end REG
