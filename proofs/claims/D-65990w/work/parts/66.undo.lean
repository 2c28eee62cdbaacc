/-! L3: Store.undo, redo -/
theorem b96_1 {m : Nat} (h : m < 2147483647) : bop32 96 (m : Int) 1 = ((m + 1 : Nat) : Int) := addNN (y := 1) (by omega)
theorem b100_1 {m k : Nat} (h : m < 2147483648) (e : m = k + 1) : bop32 100 (m : Int) 1 = (k : Int) := by rw [sub32 (by omega) (by omega)]; omega
section UNDO
variable {gv : Nat → Int} {B n d : Nat} {h : AH} {H : Nat → Nat → Int} {s : Nat → Nat} {dn tt tu mw : Nat} {c : Nat → Int}
/-- the places that undo and redo write -/
def uW (B : Nat) : Nat → Nat → Prop := fun c k => c = B + 2 ∨ (c = B + 1 ∧ (k = 6 ∨ k = 8))
theorem St.moved {dn' tu' : Nat} {q : AH} (S : St B h H s dn tt tu mw) (hb : B + 246 ≤ hnx h) (g : Agr (uW B) h q) (e6 : hv q (B + 1) 6 = (dn' : Int)) (e8 : hv q (B + 1) 8 = (tu' : Int)) (h1 : dn' ≤ tt) (hc : ∀ k, k < 37368 → hv q (B + 2) k = H dn' k) : SX B h q ∧ St B q H s dn' tt tu' mw := by
  obtain ⟨A, C, c1, c2, c3, c4, c5, c6⟩ := S
  have A0 := A
  obtain ⟨⟨a1, a2, a3⟩, ⟨k1, k2, k3⟩, ⟨o1, o2, o3⟩, ⟨p1, p2, p3⟩, ⟨x1, x2, x3⟩, y1, y2⟩ := A
  obtain ⟨n1, e1, e2, e3, e4⟩ := A0.ext hb g.ext (fun a k z => by unfold uW; omega)
  refine ⟨⟨g.ext.sub (fun c z _ y => by unfold StW; unfold uW at y; omega) (Nat.zero_le _) (Nat.zero_le _), by omega, Or.inl e1, Or.inl e2, Or.inl e3⟩, n1, C.ext A0 hb g.ext (fun a k z => by unfold uW; omega), e6, ?_, e8, h1, c5, hc⟩
  rw [g.at _ _ (by unfold uW; omega)]; exact c2
theorem c_stUndo (l : LX B n h) (hd : 10 ≤ d) (S : St B h H s dn tt tu mw) (ht : tt < 100) (htu : tu < 1000000) (hm : mw < 1000000) :
    Vt 0 (cll PP (ev PP (gsF gv) B) d 455 [(2, rf (B + 1))] h) (fun v h' => (dn = 0 ∧ v = 0 ∧ h' = h) ∨ (0 < dn ∧ v = 1 ∧ SX B h h' ∧ St B h' H s (dn - 1) tt (tu + 1) mw)) := by
  have S0 := S
  obtain ⟨A, ⟨b1, b2, b3, b4⟩, c1, c2, c3, c4, c5, c6⟩ := S
  obtain ⟨⟨a1, a2, a3⟩, ⟨k1, k2, k3⟩, ⟨o1, o2, o3⟩, ⟨p1, p2, p3⟩, ⟨x1, x2, x3⟩, y1, y2⟩ := A
  have hb := l.2.2
  refine Vt.into (D := 9) hd (Nat.le_of_ble_eq_true rfl) rfl (fun d hd => ?_)
  refine Ends.eq (b455_0 (n := n) (by (repeat' first | assumption | refine LX.setF _ _ ?_ (by decide +kernel) | refine LX.setS ?_ rfl | refine LX.setA ?_ (by first | assumption | omega))) (by first | assumption | omega)) ?_
  rw [c1, c3]
  refine Ends.b1 (fun z => ?_) (fun z => Ends.sm ⟨_, _, rfl, Or.inl ⟨by omega, rfl, rfl⟩⟩)
  obtain ⟨m, em⟩ : ∃ m, dn = m + 1 := ⟨dn - 1, by omega⟩
  have hs1 : s dn ≤ jl B h := b3 _ c4
  have hs2 : s m ≤ s dn := by rw [em]; exact b2 m (by omega)
  rw [b100_1 (m := dn) (k := m) (by omega) em, b96_1 (m := m) (by omega), ← em, tn, b1 _ c4, add32 (by omega) (by omega)]
  refine Ends.g ⟨by omega, by omega⟩ ?_
  have z0 := b4 m (by omega)
  rw [← em] at z0
  obtain ⟨z1, z2, z3⟩ := z0
  rw [show bop32 100 ((s dn : Nat) : Int) 1 = ((s m + (s dn - s m) : Nat) : Int) - 1 by rw [sub32 (by omega) (by omega)]; omega]
  refine lpm (fun (r : Nat) => r) (fun (r : Nat) L q => ∃ (g : Nat → Int), L = [(2, rf (B + 1)), (0, (((s m + r : Nat) : Int) - 1))] ∧ LX B n q ∧ Agr (uW B) h q ∧ r ≤ s dn - s m ∧ unJ (hv h (j1 B h)) (hv h (j2 B h)) (s m) r g = H m ∧ hv q (B + 1) 6 = (m : Int) ∧ hv q (B + 1) 8 = ((tu + 1 : Nat) : Int) ∧ ∀ k, k < 37368 → hv q (B + 2) k = g k) ?_ ((s dn - s m)) ⟨H dn, rfl, (by (repeat' first | assumption | refine LX.setF _ _ ?_ (by decide +kernel) | refine LX.setS ?_ rfl | refine LX.setA ?_ (by assumption))), ?_, ?_⟩
  · rintro r _ q ⟨g, rfl, lq, gq, ⟨i1, i2, i3, i4, i5⟩⟩ ihr
    refine Ends.eq (b455_43 (n := n) (by (repeat' first | assumption | refine LX.setF _ _ ?_ (by decide +kernel) | refine LX.setS ?_ rfl | refine LX.setA ?_ (by first | assumption | omega))) (by first | assumption | omega)) ?_
    have f1 : hv q (B + 6) m = (s m : Int) := by rw [gq.at _ _ (by unfold uW; omega)]; exact b1 m (by omega)
    have f2 : hv q (B + 1) 1 = rf (j1 B h) := by rw [gq.at _ _ (by unfold uW; omega)]; exact a1
    have f3 : hv q (B + 1) 2 = rf (j2 B h) := by rw [gq.at _ _ (by unfold uW; omega)]; exact a2
    rw [i3, tn, f1, f2, f3, ad_rf, ad_rf, gq.hk, gq.hk, k1, k2]
    refine Ends.g ⟨by omega, by omega⟩ (Ends.b2 (fun y => ?_) (fun y => ?_))
    · obtain rfl : r = 0 := by omega
      have i2 : g = H m := i2
      refine Ends.sm ⟨_, _, rfl, Or.inr ⟨by omega, rfl, ?_⟩⟩
      rw [show dn - 1 = m by omega]
      exact S0.moved hb gq i3 i4 (by omega) (by rw [← i2]; exact i5)
    · obtain ⟨r, rfl⟩ : ∃ r', r = r' + 1 := ⟨r - 1, by omega⟩
      have t1 : Int.toNat (((s m + (r + 1) : Nat) : Int) - 1) = s m + r := by omega
      have u1 : hv q (j1 B h) (s m + r) = hv h (j1 B h) (s m + r) := gq.at _ _ (by unfold uW; omega)
      have u2 : hv q (j2 B h) (s m + r) = hv h (j2 B h) (s m + r) := gq.at _ _ (by unfold uW; omega)
      rw [t1, u1, u2, an0]
      have zz := z1 (s m + r) (by omega) (by omega)
      refine Ends.g ⟨rf_pos _, rfl, by omega, by show _ < ((jl B h : Nat) : Int); omega⟩ (Ends.g ⟨rf_pos _, rfl, by omega, by show _ < ((jl B h : Nat) : Int); omega⟩ (Ends.g ⟨by omega, by omega⟩ ?_))
      rw [show w32 (((s m + (r + 1) : Nat) : Int) - 1 + (-1)) = ((s m + r : Nat) : Int) - 1 by rw [inc32 (by omega) (by omega)]; omega]
      refine ihr (r) _ _ ?_ ⟨ upc g (hv h (j1 B h) (s m + r)).toNat (hv h (j2 B h) (s m + r)), rfl, (by (repeat' first | assumption | refine LX.setF _ _ ?_ (by decide +kernel) | refine LX.setS ?_ rfl | refine LX.setA ?_ (by assumption))), ?_, ?_⟩
      · omega
      · exact gq.set (Or.inl rfl)
      · refine ⟨by omega, i2, ?_, ?_, fun k hk => ?_⟩
        · rw [hv_na (by omega)]; exact i3
        · rw [hv_na (by omega)]; exact i4
        · unfold upc
          rw [hv_set, if_pos rfl]
          split
          · rfl
          · exact i5 k hk
  · exact (Agr.rf.set (Or.inr ⟨rfl, by omega⟩)).set (Or.inr ⟨rfl, by omega⟩)
  · refine ⟨Nat.le_refl _, z2, hv_set_at .., ?_, fun k hk => ?_⟩
    · rw [hv_set_ne (by omega), hv_set_at]; omega
    · rw [hv_na (by omega), hv_na (by omega)]; exact c6 k hk
theorem c_stRedo (l : LX B n h) (hd : 10 ≤ d) (S : St B h H s dn tt tu mw) (ht : tt < 100) (htu : tu < 1000000) (hm : mw < 1000000) :
    Vt 0 (cll PP (ev PP (gsF gv) B) d 449 [(2, rf (B + 1))] h) (fun v h' => (dn = tt ∧ v = 0 ∧ h' = h) ∨ (dn < tt ∧ v = 1 ∧ SX B h h' ∧ St B h' H s (dn + 1) tt (tu + 1) mw)) := by
  have S0 := S
  obtain ⟨A, ⟨b1, b2, b3, b4⟩, c1, c2, c3, c4, c5, c6⟩ := S
  obtain ⟨⟨a1, a2, a3⟩, ⟨k1, k2, k3⟩, ⟨o1, o2, o3⟩, ⟨p1, p2, p3⟩, ⟨x1, x2, x3⟩, y1, y2⟩ := A
  have hb := l.2.2
  refine Vt.into (D := 9) hd (Nat.le_of_ble_eq_true rfl) rfl (fun d hd => ?_)
  refine Ends.eq (b449_0 (n := n) (by (repeat' first | assumption | refine LX.setF _ _ ?_ (by decide +kernel) | refine LX.setS ?_ rfl | refine LX.setA ?_ (by first | assumption | omega))) (by first | assumption | omega)) ?_
  rw [c1, c2, c3]
  refine Ends.b1 (fun z => ?_) (fun z => Ends.sm ⟨_, _, rfl, Or.inl ⟨by omega, rfl, rfl⟩⟩)
  have hs1 : s (dn + 1) ≤ jl B h := b3 _ (by omega)
  have hs2 : s dn ≤ s (dn + 1) := b2 dn (by omega)
  obtain ⟨z1, z2, z3⟩ := b4 dn (by omega)
  rw [tn, b1 _ c4, add32 (by omega) (by omega)]
  refine Ends.g ⟨by omega, by omega⟩ ?_
  refine lp ((s (dn + 1) - s dn)) (fun i L q => ∃ (z0 : Nat), L = [(2, rf (B + 1)), (0, (((s dn + i : Nat) : Int)))] ∧ LX B n q ∧ i ≤ (s (dn + 1) - s dn) ∧ Agr (uW B) h q ∧ hv q (B + 1) 6 = (dn : Int) ∧ hv q (B + 1) 8 = ((tu + 1 : Nat) : Int) ∧ ∀ k, k < 37368 → hv q (B + 2) k = reJ (hv h (j1 B h)) (hv h (j3 B h)) (s dn) (H dn) i k) ?_ ?_ (0) ⟨0, rfl, (by (repeat' first | assumption | refine LX.setF _ _ ?_ (by decide +kernel) | refine LX.setS ?_ rfl | refine LX.setA ?_ (by assumption))), by omega, ?_, ?_⟩
  · rintro i _ q hi ⟨z0, rfl, lq, hiN, gq, ⟨i3, i4, i5⟩⟩ ihi
    refine Ends.eq (b449_33 (n := n) (by (repeat' first | assumption | refine LX.setF _ _ ?_ (by decide +kernel) | refine LX.setS ?_ rfl | refine LX.setA ?_ (by first | assumption | omega))) (by first | assumption | omega)) ?_
    have f1 : hv q (B + 6) (dn + 1) = (s (dn + 1) : Int) := by rw [gq.at _ _ (by unfold uW; omega)]; exact b1 _ (by omega)
    have f2 : hv q (B + 1) 1 = rf (j1 B h) := by rw [gq.at _ _ (by unfold uW; omega)]; exact a1
    have f3 : hv q (B + 1) 3 = rf (j3 B h) := by rw [gq.at _ _ (by unfold uW; omega)]; exact a3
    have u1 : hv q (j1 B h) (s dn + i) = hv h (j1 B h) (s dn + i) := gq.at _ _ (by unfold uW; omega)
    have u2 : hv q (j3 B h) (s dn + i) = hv h (j3 B h) (s dn + i) := gq.at _ _ (by unfold uW; omega)
    rw [i3, b96_1 (m := dn) (by omega), tn, f1, f2, f3, ad_rf, ad_rf, gq.hk, gq.hk, k1, k3, tn, u1, u2, an0]
    have zz := z1 (s dn + i) (by omega) (by omega)
    refine Ends.g ⟨by omega, by omega⟩ (Ends.b3 (fun y => by omega) (fun y => Ends.g ⟨rf_pos _, rfl, by omega, by show _ < ((jl B h : Nat) : Int); omega⟩ (Ends.g ⟨rf_pos _, rfl, by omega, by show _ < ((jl B h : Nat) : Int); omega⟩ (Ends.g ⟨by omega, by omega⟩ ?_))))
    rw [w_succ (by omega), show s dn + i + 1 = s dn + (i + 1) by omega]
    refine ihi _ _ ⟨0, rfl, (by (repeat' first | assumption | refine LX.setF _ _ ?_ (by decide +kernel) | refine LX.setS ?_ rfl | refine LX.setA ?_ (by assumption))), by omega, ?_, ?_⟩
    · exact gq.set (Or.inl rfl)
    · refine ⟨?_, ?_, fun k hk => ?_⟩
      · rw [hv_na (by omega)]; exact i3
      · rw [hv_na (by omega)]; exact i4
      · unfold reJ upc
        rw [hv_set, if_pos rfl]
        split
        · rfl
        · exact i5 k hk
  · rintro i _ q hi ⟨z0, rfl, lq, hiN, gq, ⟨i3, i4, i5⟩⟩
    obtain rfl : i = s (dn + 1) - s dn := by omega
    refine Ends.eq (b449_33 (n := n) (by (repeat' first | assumption | refine LX.setF _ _ ?_ (by decide +kernel) | refine LX.setS ?_ rfl | refine LX.setA ?_ (by first | assumption | omega))) (by first | assumption | omega)) ?_
    have f1 : hv q (B + 6) (dn + 1) = (s (dn + 1) : Int) := by rw [gq.at _ _ (by unfold uW; omega)]; exact b1 _ (by omega)
    rw [i3, b96_1 (m := dn) (by omega), tn, f1]
    refine Ends.g ⟨by omega, by omega⟩ (Ends.b3 (fun y => ?_) (fun y => by omega))
    refine Ends.sm ⟨_, _, rfl, Or.inr ⟨by omega, rfl, S0.moved hb (gq.set (Or.inr ⟨rfl, by omega⟩)) (hv_set_at ..) (tu' := tu + 1) ?_ (by omega) (fun k hk => ?_)⟩⟩
    · rw [hv_set_ne (by omega)]; exact i4
    · rw [hv_na (by omega), i5 k hk, z3]
  · exact Agr.rf.set (Or.inr ⟨rfl, by omega⟩)
  · refine ⟨?_, ?_, fun k hk => ?_⟩
    · rw [hv_set_ne (by omega)]; exact c1
    · rw [hv_set_at]; omega
    · rw [hv_na (by omega)]; exact c6 k hk
end UNDO
