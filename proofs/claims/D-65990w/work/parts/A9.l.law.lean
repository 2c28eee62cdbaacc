/-! L3: define: the model's other answers; the law's call -/
section LAWD
variable {gv : Nat → Int} {B n d m : Nat} {h : AH} {c b u : Nat → Int} {nv nc : Nat} {Q : Nat → Nat} {al dn tt : Nat}
/-- the model's define where k is no CONFIGURATION, or the text too long -/
theorem c_define591n {k : Int} (l : LX B n h) (hd : 660 ≤ d) (M : MRg B h Q al dn tt) (V : DV B h c (Q dn) nv nc) (W : DW c nv nc) (h2 : hv h (B + 149) 2 = (m : Int)) (hm8 : m ≤ 8192) (hu : ∀ i, i < m → hv h (B + 150) i = u i) (hub : ∀ i, u i = b i % 256) (hbad : ¬ (0 ≤ k ∧ k < (nc : Int)) ∨ 240 < m) :
    Vt 0 (cll PP (ev PP (gsF gv) B) d 591 [(2, rf (B + 149)), (0, k)] h) (fun x h' => hv h' (B + 149) 2 = 0 ∧ Ext (mdW B) 0 0 h h' ∧ ((¬ (0 ≤ k ∧ k < (nc : Int)) ∧ x = 0 ∧ hv h' (B + 149) 0 = 1) ∨ ((0 ≤ k ∧ k < (nc : Int)) ∧ x = -241 ∧ hv h' (B + 149) 0 = 0))) := by
  have hb0 := l.2.2
  have m4 := M.2.2.2.2.2.2.2.1 dn (by have := M.2.2.2.2.1; have := M.2.2.2.2.2.1; omega)
  have D := m4.2.1
  have hq := M.2.2.2.1
  have ur : ∀ i, i < m → 0 ≤ u i ∧ u i < 256 := fun i hi => by rw [hub]; omega
  refine Vt.into (D := 659) hd (Nat.le_of_ble_eq_true rfl) rfl (fun d hd => ?_)
  refine Ends.eq (b591_0 (n := n) (by (repeat' first | assumption | refine LX.setF _ _ ?_ (by decide +kernel) | refine LX.setS ?_ rfl | refine LX.setA ?_ (by first | assumption | omega))) (by first | assumption | omega) (by first | assumption | omega) (by first | assumption | omega)) ?_
  rw [V.1.2.1, h2]
  have e2 : (cond (tst 2 k 0) (1 : Int) (cond (tst 2 k (nc : Int)) 0 1)) = if 0 ≤ k ∧ k < (nc : Int) then 0 else 1 := by
    rw [tst2, tst2]
    by_cases z : k < 0
    · rw [decide_eq_true z, if_neg (by omega)]; rfl
    · by_cases z2 : k < (nc : Int)
      · rw [decide_eq_false z, decide_eq_true z2, if_pos ⟨by omega, z2⟩]; rfl
      · rw [decide_eq_false z, decide_eq_false z2, if_neg (by omega)]; rfl
  rw [e2]
  generalize eh1 : hset (hset h (B + 149) 11 (-1)) (B + 149) 13 (-1) = h1
  have l1 : LX B n h1 := by rw [← eh1]; exact LX.setF 149 13 (LX.setF 149 11 l (by decide +kernel)) (by decide +kernel)
  have x1 : Ext (mdW B) 0 0 h h1 := by rw [← eh1]; exact ((Ext.rf (W := mdW B)).set (fun _ => Or.inl ⟨rfl, by omega⟩)).set (fun _ => Or.inl ⟨rfl, by omega⟩)
  have u1 : ∀ i, i < m → hv h1 (B + 150) i = u i := fun i hi => by rw [x1.at _ (by omega) (by unfold mdW; omega)]; exact hu i hi
  have t1 : hv h1 (B + 149) 2 = (m : Int) := by rw [← eh1, hv_set_ne (by omega), hv_set_ne (by omega)]; exact h2
  clear eh1
  refine Ends.cv l1 (by decide +kernel) (c_beginM l1 (by omega) t1 hm8 u1 ur) (fun h3 l3 _ _ _ ⟨g3, S3, R3, z3⟩ => ?_)
  have x3 : Ext (mdW B) 0 0 h h3 := x1.tr g3.ext (fun c k _ w => Or.inl ⟨w.1, by omega⟩)
  refine Ends.eq (b591_51 (n := n) (by (repeat' first | assumption | refine LX.setF _ _ ?_ (by decide +kernel) | refine LX.setS ?_ rfl | refine LX.setA ?_ (by first | assumption | omega))) (by first | assumption | omega)) ?_
  by_cases hk : 0 ≤ k ∧ k < (nc : Int)
  · rw [if_pos hk, tst0, decide_eq_true (show (0 : Int) = 0 from rfl)]
    simp only [cond_true]
    refine Ends.ct l3 (by decide +kernel) (by decide) (c_fails l3 (by omega) (x := 0)) (fun y h4 l4 _ _ _ ⟨ey, eh4⟩ => ?_)
    rw [if_neg (by decide)] at ey
    rw [ey]
    refine Ends.eq (b591_64 (n := n) (by (repeat' first | assumption | refine LX.setF _ _ ?_ (by decide +kernel) | refine LX.setS ?_ rfl | refine LX.setA ?_ (by first | assumption | omega))) (by first | assumption | omega)) ?_
    rw [tst4, decide_eq_true (show (240 : Int) < (m : Int) by omega)]
    refine Ends.b0 (fun _ => Ends.b1 (fun z => absurd rfl z) (fun _ => ?_)) (fun z => absurd rfl z)
    refine Ends.sm ⟨_, _, rfl, ?_, ?_, Or.inr ⟨hk, rfl, ?_⟩⟩
    · rw [eh4, hv_set_ne (by omega)]; exact z3
    · rw [eh4]; exact x3.set (fun _ => Or.inl ⟨rfl, by omega⟩)
    · rw [eh4]; exact hv_set_at ..
  · rw [if_neg hk, tst0, decide_eq_false (show ¬ (1 : Int) = 0 by decide)]
    simp only [cond_false]
    refine Ends.ct l3 (by decide +kernel) (by decide) (c_fails l3 (by omega) (x := 1)) (fun y h4 l4 _ _ _ ⟨ey, eh4⟩ => ?_)
    rw [if_pos (by decide)] at ey
    rw [ey]
    refine Ends.eq (b591_64 (n := n) (by (repeat' first | assumption | refine LX.setF _ _ ?_ (by decide +kernel) | refine LX.setS ?_ rfl | refine LX.setA ?_ (by first | assumption | omega))) (by first | assumption | omega)) ?_
    refine Ends.b0 (fun z => absurd z (by decide)) (fun _ => ?_)
    refine Ends.sm ⟨_, _, rfl, ?_, ?_, Or.inl ⟨hk, rfl, ?_⟩⟩
    · rw [eh4, hv_set_ne (by omega)]; exact z3
    · rw [eh4]; exact x3.set (fun _ => Or.inl ⟨rfl, by omega⟩)
    · rw [eh4]; exact hv_set_at ..
/-- the law's call: what is thrown becomes a number -/
theorem c_law490 {k : Int} {o : Nat} {R : Int → AH → Prop} {E1 E2 : Int → AH → Prop} (l : LX B n h) (hd : 440 ≤ d) (C : ∀ d, 439 ≤ d → Vtx 0 (cll PP (ev PP (gsF gv) B) d 15 [(2, rf (B + 0)), (0, k)] h) R (fun x h' => (E1 x h' ∧ (hk h' (ad x)).2 = 27) ∨ (E2 x h' ∧ (hk h' (ad x)).2 = 28))) (hoB : B ≤ o) (ho : ∀ x h', R x h' → hk h' o = (3, 1)) :
    Vt 0 (cll PP (ev PP (gsF gv) B) d 490 [(2, rf (B + 0)), (0, k), (2, (rf o))] h) (fun v h' => (v = 0 ∧ ∃ x h1, R x h1 ∧ h' = hset h1 o 0 (anar 1 (uop 2 x))) ∨ (v = 1 ∧ ∃ x, E1 x h') ∨ (v = 2 ∧ ∃ x, E2 x h')) := by
  refine Vt.into (D := 439) hd (Nat.le_of_ble_eq_true rfl) rfl (fun d hd => ?_)
  refine Ends.eq (b490_0 (n := n) (by (repeat' first | assumption | refine LX.setF _ _ ?_ (by decide +kernel) | refine LX.setS ?_ rfl | refine LX.setA ?_ (by first | assumption | omega))) (by first | assumption | omega)) ?_
  refine Ends.ctx l (by decide +kernel) (by decide) (C d hd) (fun x h1 l1 _ _ r => ?_) (fun x h1 l1 _ _ e => ?_)
  · have ko := ho x h1 r
    refine Ends.eq (b490_7 (n := n) (by (repeat' first | assumption | refine LX.setF _ _ ?_ (by decide +kernel) | refine LX.setS ?_ rfl | refine LX.setA ?_ (by first | assumption | omega))) (by first | assumption | omega)) ?_
    rw [ad_rf, ko]
    exact Ends.g ⟨rf_pos _, rfl, by decide, by decide, hoB⟩ (Ends.sm ⟨_, _, rfl, Or.inl ⟨rfl, x, h1, r, rfl⟩⟩)
  · rcases e with ⟨e, ec⟩ | ⟨e, ec⟩
    · refine Ends.tc ec rfl ?_
      refine Ends.eq (b490_12 (n := n) (by (repeat' first | assumption | refine LX.setF _ _ ?_ (by decide +kernel) | refine LX.setS ?_ rfl | refine LX.setA ?_ (by first | assumption | omega))) (by first | assumption | omega)) ?_
      exact Ends.sm ⟨_, _, rfl, Or.inr (Or.inl ⟨rfl, x, e⟩)⟩
    · refine Ends.tc ec rfl ?_
      refine Ends.eq (b490_15 (n := n) (by (repeat' first | assumption | refine LX.setF _ _ ?_ (by decide +kernel) | refine LX.setS ?_ rfl | refine LX.setA ?_ (by first | assumption | omega))) (by first | assumption | omega)) ?_
      exact Ends.sm ⟨_, _, rfl, Or.inr (Or.inr ⟨rfl, x, e⟩)⟩
end LAWD
