/-! L3: frames of what may make new cells; Arrays.copyOf -/
def Ext (W : Nat → Nat → Prop) (c s : Nat) (h t : AH) : Prop := (∀ a, a < hnx h → hk t a = hk h a) ∧ (∀ a k, a < hnx h → ¬ W a k → hv t a k = hv h a k) ∧ hnx h ≤ hnx t ∧ hnx t ≤ hnx h + c ∧ hus h ≤ hus t ∧ hus t ≤ hus h + s
section EXT
variable {W W' : Nat → Nat → Prop} {c s c' s' : Nat} {h t u : AH}
theorem Ext.rf : Ext W c s h h := ⟨fun _ _ => rfl, fun _ _ _ _ => rfl, Nat.le_refl _, Nat.le_add_right _ _, Nat.le_refl _, Nat.le_add_right _ _⟩
theorem Agr.ext (g : Agr W h t) : Ext W 0 0 h t := ⟨fun a _ => g.hk a, fun a k _ hw => g.at a k hw, by rw [g.nx]; exact Nat.le_refl _, by rw [g.nx]; exact Nat.le_refl _, by rw [g.us]; exact Nat.le_refl _, by rw [g.us]; exact Nat.le_refl _⟩
theorem Ext.tr (g : Ext W c s h t) (g' : Ext W' c' s' t u) (hs : ∀ a k, a < hnx h → W' a k → W a k) : Ext W (c + c') (s + s') h u := by
  obtain ⟨a1, a2, a3, a4, a5, a6⟩ := g
  obtain ⟨b1, b2, b3, b4, b5, b6⟩ := g'
  refine ⟨fun a ha => (b1 a (by omega)).trans (a1 a ha), fun a k ha hw => (b2 a k (by omega) (fun q => hw (hs a k ha q))).trans (a2 a k ha hw), by omega, by omega, by omega, by omega⟩
theorem Ext.sub (g : Ext W c s h t) (hs : ∀ a k, a < hnx h → W a k → W' a k) (hc : c ≤ c') (hz : s ≤ s') : Ext W' c' s' h t := by
  obtain ⟨a1, a2, a3, a4, a5, a6⟩ := g
  exact ⟨a1, fun a k ha hw => a2 a k ha (fun q => hw (hs a k ha q)), a3, by omega, a5, by omega⟩
theorem Ext.new {kd : Nat × Nat} {sz : Nat} : Ext W 1 sz h (hnew h kd sz) := by
  refine ⟨fun a ha => ?_, fun a k ha _ => ?_, by rw [hnx_new]; omega, by rw [hnx_new]; omega, by rw [hus_new]; omega, by rw [hus_new]; omega⟩
  · rw [hk_new, if_neg (by omega)]
  · rw [hv_new, if_neg (by omega)]
theorem Ext.set {a k : Nat} {v : Int} (g : Ext W c s h t) (hw : a < hnx h → W a k) : Ext W c s h (hset t a k v) := by
  obtain ⟨a1, a2, a3⟩ := g
  refine ⟨a1, fun b j hb hn => ?_, a3⟩
  rw [hv_set_ne (fun q => hn (by rw [q.1, q.2]; exact hw (by omega)))]
  exact a2 b j hb hn
theorem Ext.cpy {x y sp dp m : Nat} (g : Ext W c s h t) (hw : y < hnx h → ∀ k, W y k) : Ext W c s h (hcpy t x y sp dp m) := by
  obtain ⟨a1, a2, a3⟩ := g
  refine ⟨a1, fun b j hb hn => ?_, a3⟩
  rw [hv_cpy, if_neg (fun q => hn (by rw [q.1]; exact hw (by omega) j))]
  exact a2 b j hb hn
theorem Ext.hk (g : Ext W c s h t) {a : Nat} (ha : a < hnx h) : hk t a = Jvm.Pilot.CPartDesignerLaw_law_r7324_a227e6.hk h a := g.1 a ha
theorem Ext.at (g : Ext W c s h t) {a : Nat} (k : Nat) (ha : a < hnx h) (hw : ¬ W a k) : hv t a k = hv h a k := g.2.1 a k ha hw
end EXT
section COPYOF
variable {gv : Nat → Int} {B n d : Nat} {h : AH}
theorem min32 {x y : Int} (e : x ≤ y) : v892 x y = x := by
  unfold v892
  rw [tst4]
  have : decide (y < x) = false := by simp; omega
  rw [this]; rfl
theorem c_copyOf (l : LX B n h) (hd : 10 ≤ d) {x m N : Nat} (hx : hk h x = (2, m)) (hxb : x < hnx h) (hm : m < N) (hN : N ≤ 16777216) :
    Vt 2 (cll PP (ev PP (gsF gv) B) d 907 [(2, (rf x)), (0, (N : Int))] h) (fun v h' => v = rf (hnx h) ∧ h' = hcpy (hnew h (2, N) N) x (hnx h) 0 0 m) := by
  refine Vt.into (D := 9) hd (Nat.le_of_ble_eq_true rfl) rfl (fun d hd => ?_)
  refine Ends.eq (b907_0 (n := n) (by (repeat' first | assumption | refine LX.setF _ _ ?_ (by decide +kernel) | refine LX.setS ?_ rfl | refine LX.setA ?_ (by first | assumption | omega))) (by first | assumption | omega)) ?_
  rw [ad_rf, hx]
  refine Ends.g ⟨rf_pos _, Nat.le_refl _⟩ (Ends.b1 (fun _ => Ends.g ⟨by omega, by omega⟩ ?_) (fun z => absurd z (by show ¬ (N : Int) = (m : Int); omega)))
  have l1 : LX B n (hnew h (0 + 2, Int.toNat (N : Int)) (Int.toNat (N : Int))) := l.new
  refine Ends.eq (b907_17 (n := n) l1 (by omega)) ?_
  rw [ad_rf, ad_rf, hk_new, hk_new, if_pos rfl]
  have e : ¬ x = hnx h := by omega
  rw [if_neg e, hx]
  have e2 : v892 ((((2, m) : Nat × Nat).2 : Nat) : Int) (N : Int) = (m : Int) := min32 (by show (m : Int) ≤ N; omega)
  rw [e2]
  refine Ends.g ⟨rf_pos _, Nat.le_refl _⟩ (Ends.g ⟨rf_pos _, rf_pos _, rfl, rfl, by omega, by omega, by omega, by show 0 + (m : Int) ≤ (m : Nat); omega, by show 0 + (m : Int) ≤ ((Int.toNat (N : Int) : Nat) : Int); omega, by have := l.2.2; omega⟩ ?_)
  refine Ends.eq (b907_31 (n := n) (l1.cpy (t := 0) (by rw [hk_new, if_pos rfl])) (by omega)) ?_
  exact Ends.sm ⟨_, _, rfl, rfl, rfl⟩
end COPYOF
