/-! L3: the desk's define -/
section DESK
variable {gv : Nat → Int} {B n d m : Nat} {h : AH} {H : Nat → Nat → Int} {s : Nat → Nat} {dn tt tu mw nv nc : Nat} {b u : Nat → Int}
theorem v42_in {x lo hi : Int} : v42 x lo hi = if lo ≤ x ∧ x ≤ hi then 1 else 0 := by
  unfold v42
  simp only [tst2, tst3, tst4, tst5]
  by_cases h1 : x < lo
  · rw [if_neg (by omega)]
    simp [h1]
  · by_cases h2 : hi < x
    · rw [if_neg (by omega)]
      simp [h1, h2]
    · rw [if_pos (by omega)]
      simp [h1, h2]
theorem c_read76 (l : LX B n h) (hd : 10 ≤ d) : Vt 0 (cll PP (ev PP (gsF gv) B) d 76 [(2, rf (B + 0))] h) (fun v h' => v = hv h (B + 0) 15 ∧ h' = hset h (B + 0) 15 0) := by
  refine Vt.into (D := 9) hd (Nat.le_of_ble_eq_true rfl) rfl (fun d hd => ?_)
  refine Ends.eq (b76_0 (n := n) (by (repeat' first | assumption | refine LX.setF _ _ ?_ (by decide +kernel) | refine LX.setS ?_ rfl | refine LX.setA ?_ (by first | assumption | omega))) (by first | assumption | omega)) ?_
  exact Ends.sm ⟨_, _, rfl, rfl, rfl⟩
/-- whether k is a CONFIGURATION -/
theorem v45_is {k : Int} (hc : ∀ z, z < 37368 → hv h (B + 2) z = H dn z) (D : DW (H dn) nv nc) : v45 B h k = (if 0 ≤ k ∧ k < (nc : Int) then 1 else 0) := by
  unfold v45 v447
  rw [show hv h (B + 2) (Int.toNat 1) = (nc : Int) from (hc 1 (by decide)).trans D.2.2.1, v42_in, sub32 (by have := D.2.2.2.1; have := D.2.2.2.2.1; omega) (by have := D.2.2.2.1; have := D.2.2.2.2.1; omega)]
  by_cases e : 0 ≤ k ∧ k < (nc : Int)
  · rw [if_pos e, if_pos (by omega)]
  · rw [if_neg e, if_neg (by omega)]
theorem WrX.kd {pl x : Int} {h' : AH} (w : WrX h pl x h') : 0 < x ∧ hk h' (ad x) = (1, 19) ∧ hv h' (ad x) 0 = pl := by
  obtain ⟨rfl, rfl⟩ := w
  refine ⟨rf_pos _, ?_, ?_⟩
  · rw [ad_rf]
    show hk (hnew h (1, 19) 7) (hnx h) = (1, 19)
    rw [hk_new, if_pos rfl]
  · rw [ad_rf]; exact hv_set_at ..
/-- what the desk's define answers, and throws -/
def DskR (B : Nat) (H : Nat → Nat → Int) (dn tu mw nv nc k : Nat) (b u : Nat → Int) (m : Nat) (h : AH) (x : Int) (h' : AH) : Prop := (240 < m ∧ x = -241 ∧ h' = h) ∨ (m ≤ 240 ∧ ((∃ e h1 y, dfS (H dn) nv nc k b u m = .inl e ∧ x = bop32 100 (-1) (e : Int) ∧ Agr (dfW B) h h1 ∧ WrX h1 (e : Int) y h') ∨ (DefR B H dn tu mw nv nc k b u m h x h' ∧ x < 40)))
def DskE (B : Nat) (H : Nat → Nat → Int) (dn tu mw nv nc k : Nat) (b u : Nat → Int) (m : Nat) (h : AH) (x : Int) (h' : AH) : Prop := m ≤ 240 ∧ ∃ h1, DefR B H dn tu mw nv nc k b u m h 40 h1 ∧ ThX 28 h1 x h'
theorem c_define15n {k : Int} (l : LX B n h) (hd : 430 ≤ d) (hcs : ∀ z, z < 37368 → hv h (B + 2) z = H dn z) (D : DW (H dn) nv nc) (hk' : ¬ (0 ≤ k ∧ k < (nc : Int))) :
    Vtx 0 (cll PP (ev PP (gsF gv) B) d 15 [(2, rf (B + 0)), (0, k)] h) (fun _ _ => False) (ThX 27 (hset h (B + 0) 15 0)) := by
  refine Vtx.into (D := 429) hd (Nat.le_of_ble_eq_true rfl) rfl (fun d hd => ?_)
  refine Ends.eq (b15_0 (n := n) (by (repeat' first | assumption | refine LX.setF _ _ ?_ (by decide +kernel) | refine LX.setS ?_ rfl | refine LX.setA ?_ (by first | assumption | omega))) (by first | assumption | omega)) ?_
  refine Ends.ct l (by decide +kernel) (by decide) (c_read76 l (by omega)) (fun x h1 l1 _ _ _ ⟨ex, e1⟩ => ?_)
  have hc1 : ∀ z, z < 37368 → hv h1 (B + 2) z = H dn z := fun z hz => by rw [e1, hv_na (by omega)]; exact hcs z hz
  refine Ends.eq (b15_4 (n := n) (by (repeat' first | assumption | refine LX.setF _ _ ?_ (by decide +kernel) | refine LX.setS ?_ rfl | refine LX.setA ?_ (by first | assumption | omega))) (by first | assumption | omega)) ?_
  rw [v45_is hc1 D, if_neg hk']
  refine Ends.g (by unfold q45 q447; omega) ?_
  refine Ends.cvx l1 (by decide +kernel) (c_need64 l1 (by omega)) (fun h2 l2 _ _ ⟨z, _⟩ => absurd rfl z) (fun x h2 l2 _ _ ⟨_, w⟩ => ?_)
  rw [e1] at w
  exact Ends.th w.c rfl (Or.inr ⟨_, _, rfl, w⟩)
theorem c_define15 {k : Nat} (l : LX B n h) (hd : 430 ≤ d) (S : St B h H s dn tt tu mw) (D : DW (H dn) nv nc) (T : FnB gv B h) (h15 : hv h (B + 0) 15 = (m : Int)) (hm8 : m ≤ 8192) (hbb : ∀ i, hv h (B + 26) i = b i) (hb : ∀ i, i < m → -128 ≤ b i ∧ b i < 128) (hu : ∀ i, u i = b i % 256) (hk' : k < nc) (hdn : dn < 100) (htu : tu < 1000000) (hmw : mw + 100 < 1000000) (h11 : hv h (B + 7) 11 = 0) :
    Vtx 0 (cll PP (ev PP (gsF gv) B) d 15 [(2, rf (B + 0)), (0, (k : Int))] h) (DskR B H dn tu mw nv nc k b u m (hset h (B + 0) 15 0)) (DskE B H dn tu mw nv nc k b u m (hset h (B + 0) 15 0)) := by
  have hb0 := l.2.2
  have hn := D.2.1
  have J3 := S.1.2.2.1
  have hcs : ∀ z, z < 37368 → hv h (B + 2) z = H dn z := S.2.2.2.2.2.2.2
  refine Vtx.into (D := 429) hd (Nat.le_of_ble_eq_true rfl) rfl (fun d hd => ?_)
  refine Ends.eq (b15_0 (n := n) (by (repeat' first | assumption | refine LX.setF _ _ ?_ (by decide +kernel) | refine LX.setS ?_ rfl | refine LX.setA ?_ (by first | assumption | omega))) (by first | assumption | omega)) ?_
  refine Ends.ct l (by decide +kernel) (by decide) (c_read76 l (by omega)) (fun x h1 l1 _ _ _ ⟨ex, e1⟩ => ?_)
  rw [h15] at ex
  have g1 : Agr (fun c k => c = B + 0 ∧ k = 15) h h1 := by rw [e1]; exact Agr.rf.set ⟨rfl, rfl⟩
  have hc1 : ∀ z, z < 37368 → hv h1 (B + 2) z = H dn z := fun z hz => by rw [g1.at _ _ (by omega)]; exact hcs z hz
  have S1 : St B h1 H s dn tt tu mw := S.ext hb0 g1.ext (fun a k w => by omega)
  have T1 := T.agr g1 (fun c k hc w => by omega)
  rw [← e1, ex]
  refine Ends.eq (b15_4 (n := n) (by (repeat' first | assumption | refine LX.setF _ _ ?_ (by decide +kernel) | refine LX.setS ?_ rfl | refine LX.setA ?_ (by first | assumption | omega))) (by first | assumption | omega)) ?_
  rw [v45_is hc1 D, if_pos ⟨by omega, by omega⟩]
  refine Ends.g (by unfold q45 q447; omega) ?_
  refine Ends.cvx l1 (by decide +kernel) (c_need64 l1 (by omega)) (fun h2 l2 _ _ ⟨_, e2⟩ => ?_) (fun x h2 l2 _ _ ⟨z, _⟩ => absurd z (by decide))
  subst e2
  refine Ends.eq (b15_13 (n := n) (by (repeat' first | assumption | refine LX.setF _ _ ?_ (by decide +kernel) | refine LX.setS ?_ rfl | refine LX.setA ?_ (by first | assumption | omega))) (by first | assumption | omega)) ?_
  refine Ends.b5 (fun z => ?_) (fun z => Ends.sm (Or.inl ⟨_, _, rfl, Or.inl ⟨by omega, rfl, rfl⟩⟩))
  refine Ends.ctx l2 (by decide +kernel) (by decide) (c_define190 (b := b) (u := u) l2 (by omega) S1 D T1 (by omega) (fun i => by rw [g1.at _ _ (by omega)]; exact hbb i) hb hu hk' hdn htu hmw (by rw [g1.at _ _ (by omega)]; exact h11)) (fun y h3 l3 _ _ R3 => ?_) (fun y h3 l3 _ _ ⟨e, hq, hds, G3, w⟩ => ?_)
  rotate_left
  · refine Ends.tc w.c rfl ?_
    obtain ⟨w1, w2, w3⟩ := w.kd
    refine Ends.eq (b15_41 (n := n) (by first | assumption | omega) (by (repeat' first | assumption | refine LX.setF _ _ ?_ (by decide +kernel) | refine LX.setS ?_ rfl | refine LX.setA ?_ (by first | assumption | omega))) (by first | assumption | omega)) ?_
    rw [w3]
    exact Ends.g ⟨w1, w2⟩ (Ends.sm (Or.inl ⟨_, _, rfl, Or.inr ⟨by omega, Or.inl ⟨e, hq, y, hds, rfl, G3, w⟩⟩⟩))
  refine Ends.eq (b15_37 (n := n) (by (repeat' first | assumption | refine LX.setF _ _ ?_ (by decide +kernel) | refine LX.setS ?_ rfl | refine LX.setA ?_ (by first | assumption | omega))) (by first | assumption | omega)) ?_
  rw [tst3]
  by_cases hy : y < 40
  · rw [decide_eq_true hy]
    refine Ends.cvx l3 (by decide +kernel) (c_state93 l3 (by omega)) (fun h4 l4 _ _ ⟨_, e4⟩ => ?_) (fun x h4 l4 _ _ ⟨z, _⟩ => absurd z (by decide))
    subst e4
    refine Ends.eq (b15_65 (n := n) (by (repeat' first | assumption | refine LX.setF _ _ ?_ (by decide +kernel) | refine LX.setS ?_ rfl | refine LX.setA ?_ (by first | assumption | omega))) (by first | assumption | omega)) ?_
    exact Ends.sm (Or.inl ⟨_, _, rfl, Or.inr ⟨by omega, Or.inr ⟨R3, hy⟩⟩⟩)
  · rw [decide_eq_false hy]
    have ey : y = 40 := by
      obtain ⟨X, N, P, _, ⟨_, _, e, _⟩ | ⟨hf, e, _⟩⟩ := R3
      · exact e
      · exfalso
        rw [e] at hy
        split at hy
        · next z => exact hf ⟨z, by omega⟩
        · next z =>
          have : fdC (H dn) nv b u m 0 < (nv : Int) := by
            unfold fdC
            rcases fdN_r (nmP (H dn) b (tkF u m 0) (tkT u m 0 - tkF u m 0)) nv 0 with q | ⟨q1, q2⟩
            · rw [q]; omega
            · omega
          omega
    refine Ends.cvx l3 (by decide +kernel) (c_state93 l3 (by omega)) (fun h4 l4 _ _ ⟨z, _⟩ => absurd rfl z) (fun x h4 l4 _ _ ⟨_, w⟩ => ?_)
    rw [ey] at R3
    exact Ends.th w.c rfl (Or.inr ⟨_, _, rfl, by omega, h3, R3, w⟩)
end DESK
