/-! L3: the model's undo, redo -/
section MUNDO
variable {gv : Nat → Int} {B n d : Nat} {h : AH} {Q : Nat → Nat} {al dn tt : Nat}
/-- what undo, redo write -/
def unW (B : Nat) : Nat → Nat → Prop := fun c k => (c = B + 149 ∧ (k = 0 ∨ (16 ≤ k ∧ k ≤ 19))) ∨ c = B + 154
theorem MRg.moved {dn' : Nat} {t : AH} (l : LX B n h) (M : MRg B h Q al dn tt) (g : Agr (unW B) h t) (e16 : hv t (B + 149) 16 = (dn' : Int)) (e17 : hv t (B + 149) 17 = (dn' : Int)) (e18 : hv t (B + 149) 18 = ((tt - dn' : Nat) : Int)) (e19 : hv t (B + 149) 19 = rf (Q dn')) (hd' : dn' ≤ tt) : MRg B t Q al dn' tt := by
  obtain ⟨m16, m17, m18, m19, m1, m2, m3, m4, m5, m6⟩ := M
  refine ⟨e16, e17, e18, e19, hd', m2, m3, fun i hi => ?_, fun i h1 h2 => by rw [g.at _ _ (by unfold unW; omega)]; exact m5 i h1 h2, m6⟩
  obtain ⟨z1, z2, z3, z4⟩ := m4 i hi
  have lo := z2.lo
  have far : ∀ c k, Q i ≤ c → c < Q i + 140 → ¬ unW B c k := fun c k h1 h2 => by unfold unW; omega
  exact ⟨by rw [g.at _ _ (by unfold unW; omega)]; exact z1, z2.far g far, z3.agr g far, by rw [g.nx]; exact z4⟩
theorem c_undoM (l : LX B n h) (hd : 12 ≤ d) (M : MRg B h Q al dn tt) :
    Vt 0 (cll PP (ev PP (gsF gv) B) d 859 [(2, rf (B + 149))] h) (fun x h' => Agr (unW B) h h' ∧ hv h' (B + 149) 0 = 0 ∧ ((dn = 0 ∧ x = 0 ∧ Agr (fun c k => c = B + 149 ∧ k = 0) h h' ∧ MRg B h' Q al dn tt) ∨ (0 < dn ∧ x = 1 ∧ MRg B h' Q al (dn - 1) tt ∧ ∀ k, k < 40 → hv h' (B + 154) k = 0))) := by
  have hb := l.2.2
  have M0 := M
  obtain ⟨m16, m17, m18, m19, m1, m2, m3, m4, m5, m6⟩ := M
  refine Vt.into (D := 11) hd (Nat.le_of_ble_eq_true rfl) rfl (fun d hd => ?_)
  refine Ends.eq (b859_0 (n := n) (by (repeat' first | assumption | refine LX.setF _ _ ?_ (by decide +kernel) | refine LX.setS ?_ rfl | refine LX.setA ?_ (by first | assumption | omega))) (by first | assumption | omega)) ?_
  rw [m17, m16, m18]
  refine Ends.b1 (fun z => ?_) (fun z => ?_)
  · obtain ⟨m, em⟩ : ∃ m, dn = m + 1 := ⟨dn - 1, by omega⟩
    rw [b100_1 (m := dn) (k := m) (by omega) em, show bop32 96 ((tt - dn : Nat) : Int) 1 = ((tt - m : Nat) : Int) from (b96_1 (by omega)).trans (by rw [show tt - dn + 1 = tt - m by omega]), v549_is (by omega), tn, (m4 m (by omega)).1]
    refine Ends.g ⟨by omega, by omega⟩ ?_
    generalize eh : hset (hset (hset (hset (hset h (B + 149) 0 0) (B + 149) 17 (m : Int)) (B + 149) 18 ((tt - m : Nat) : Int)) (B + 149) 16 (m : Int)) (B + 149) 19 (rf (Q m)) = s
    have ls : LX B n s := by rw [← eh]; exact LX.setF 149 19 (LX.setF 149 16 (LX.setF 149 18 (LX.setF 149 17 (LX.setF 149 0 l (by decide +kernel)) (by decide +kernel)) (by decide +kernel)) (by decide +kernel)) (by decide +kernel)
    have gs : Agr (fun c k => c = B + 149 ∧ (k = 0 ∨ (16 ≤ k ∧ k ≤ 19))) h s := by
      rw [← eh]
      exact ((((Agr.rf.set ⟨rfl, Or.inl rfl⟩).set ⟨rfl, Or.inr ⟨by decide, by decide⟩⟩).set ⟨rfl, Or.inr ⟨by decide, by decide⟩⟩).set ⟨rfl, Or.inr ⟨by decide, by decide⟩⟩).set ⟨rfl, Or.inr ⟨by decide, by decide⟩⟩
    have v19 : hv s (B + 149) 19 = rf (Q m) := by rw [← eh]; exact hv_set_at ..
    have v16 : hv s (B + 149) 16 = (m : Int) := by rw [← eh, hv_set_ne (by omega)]; exact hv_set_at ..
    have v18 : hv s (B + 149) 18 = ((tt - m : Nat) : Int) := by rw [← eh, hv_set_ne (by omega), hv_set_ne (by omega)]; exact hv_set_at ..
    have v17 : hv s (B + 149) 17 = (m : Int) := by rw [← eh, hv_set_ne (by omega), hv_set_ne (by omega), hv_set_ne (by omega)]; exact hv_set_at ..
    have v0 : hv s (B + 149) 0 = 0 := by rw [← eh, hv_set_ne (by omega), hv_set_ne (by omega), hv_set_ne (by omega), hv_set_ne (by omega)]; exact hv_set_at ..
    clear eh
    refine Ends.cv ls (by decide +kernel) (c_forget ls (by omega)) (fun s5 l5 _ _ _ ⟨g5, k5⟩ => ?_)
    have G : Agr (unW B) h s5 := (gs.sub (fun c k w => Or.inl w)).tr g5 (fun c k w => Or.inr w)
    refine Ends.eq (b859_64 (n := n) (by (repeat' first | assumption | refine LX.setF _ _ ?_ (by decide +kernel) | refine LX.setS ?_ rfl | refine LX.setA ?_ (by first | assumption | omega))) (by first | assumption | omega)) ?_
    refine Ends.sm ⟨_, _, rfl, G, by rw [g5.at _ _ (by omega)]; exact v0, Or.inr ⟨by omega, rfl, ?_, k5⟩⟩
    obtain rfl : m = dn - 1 := by omega
    exact M0.moved l G (by rw [g5.at _ _ (by omega)]; exact v16) (by rw [g5.at _ _ (by omega)]; exact v17) (by rw [g5.at _ _ (by omega)]; exact v18) (by rw [g5.at _ _ (by omega)]; exact v19) (by omega)
  · have g : Agr (fun c k => c = B + 149 ∧ k = 0) h (hset h (B + 149) 0 0) := Agr.rf.set ⟨rfl, rfl⟩
    have G : Agr (unW B) h (hset h (B + 149) 0 0) := g.sub (fun c k w => Or.inl ⟨w.1, Or.inl w.2⟩)
    refine Ends.sm ⟨_, _, rfl, G, hv_set_at .., Or.inl ⟨by omega, rfl, g, ?_⟩⟩
    exact M0.moved l G (by rw [hv_set_ne (by omega)]; exact m16) (by rw [hv_set_ne (by omega)]; exact m17) (by rw [hv_set_ne (by omega)]; exact m18) (by rw [hv_set_ne (by omega)]; exact m19) m1
theorem c_redoM (l : LX B n h) (hd : 12 ≤ d) (M : MRg B h Q al dn tt) :
    Vt 0 (cll PP (ev PP (gsF gv) B) d 800 [(2, rf (B + 149))] h) (fun x h' => Agr (unW B) h h' ∧ hv h' (B + 149) 0 = 0 ∧ ((dn = tt ∧ x = 0 ∧ Agr (fun c k => c = B + 149 ∧ k = 0) h h' ∧ MRg B h' Q al dn tt) ∨ (dn < tt ∧ x = 1 ∧ MRg B h' Q al (dn + 1) tt ∧ ∀ k, k < 40 → hv h' (B + 154) k = 0))) := by
  have hb := l.2.2
  have M0 := M
  obtain ⟨m16, m17, m18, m19, m1, m2, m3, m4, m5, m6⟩ := M
  refine Vt.into (D := 11) hd (Nat.le_of_ble_eq_true rfl) rfl (fun d hd => ?_)
  refine Ends.eq (b800_0 (n := n) (by (repeat' first | assumption | refine LX.setF _ _ ?_ (by decide +kernel) | refine LX.setS ?_ rfl | refine LX.setA ?_ (by first | assumption | omega))) (by first | assumption | omega)) ?_
  rw [m17, m16, m18]
  refine Ends.b1 (fun z => ?_) (fun z => ?_)
  · have hlt : dn < tt := by omega
    rw [b96_1 (m := dn) (by omega), b100_1 (m := tt - dn) (k := tt - (dn + 1)) (by omega) (by omega), v549_is (by omega), tn, (m4 (dn + 1) (by omega)).1]
    refine Ends.g ⟨by omega, by omega⟩ ?_
    generalize eh : hset (hset (hset (hset (hset h (B + 149) 0 0) (B + 149) 17 ((dn + 1 : Nat) : Int)) (B + 149) 18 ((tt - (dn + 1) : Nat) : Int)) (B + 149) 16 ((dn + 1 : Nat) : Int)) (B + 149) 19 (rf (Q (dn + 1))) = s
    have ls : LX B n s := by rw [← eh]; exact LX.setF 149 19 (LX.setF 149 16 (LX.setF 149 18 (LX.setF 149 17 (LX.setF 149 0 l (by decide +kernel)) (by decide +kernel)) (by decide +kernel)) (by decide +kernel)) (by decide +kernel)
    have gs : Agr (fun c k => c = B + 149 ∧ (k = 0 ∨ (16 ≤ k ∧ k ≤ 19))) h s := by
      rw [← eh]
      exact ((((Agr.rf.set ⟨rfl, Or.inl rfl⟩).set ⟨rfl, Or.inr ⟨by decide, by decide⟩⟩).set ⟨rfl, Or.inr ⟨by decide, by decide⟩⟩).set ⟨rfl, Or.inr ⟨by decide, by decide⟩⟩).set ⟨rfl, Or.inr ⟨by decide, by decide⟩⟩
    have v19 : hv s (B + 149) 19 = rf (Q (dn + 1)) := by rw [← eh]; exact hv_set_at ..
    have v16 : hv s (B + 149) 16 = ((dn + 1 : Nat) : Int) := by rw [← eh, hv_set_ne (by omega)]; exact hv_set_at ..
    have v18 : hv s (B + 149) 18 = ((tt - (dn + 1) : Nat) : Int) := by rw [← eh, hv_set_ne (by omega), hv_set_ne (by omega)]; exact hv_set_at ..
    have v17 : hv s (B + 149) 17 = ((dn + 1 : Nat) : Int) := by rw [← eh, hv_set_ne (by omega), hv_set_ne (by omega), hv_set_ne (by omega)]; exact hv_set_at ..
    have v0 : hv s (B + 149) 0 = 0 := by rw [← eh, hv_set_ne (by omega), hv_set_ne (by omega), hv_set_ne (by omega), hv_set_ne (by omega)]; exact hv_set_at ..
    clear eh
    refine Ends.cv ls (by decide +kernel) (c_forget ls (by omega)) (fun s5 l5 _ _ _ ⟨g5, k5⟩ => ?_)
    have G : Agr (unW B) h s5 := (gs.sub (fun c k w => Or.inl w)).tr g5 (fun c k w => Or.inr w)
    refine Ends.eq (b800_64 (n := n) (by (repeat' first | assumption | refine LX.setF _ _ ?_ (by decide +kernel) | refine LX.setS ?_ rfl | refine LX.setA ?_ (by first | assumption | omega))) (by first | assumption | omega)) ?_
    refine Ends.sm ⟨_, _, rfl, G, by rw [g5.at _ _ (by omega)]; exact v0, Or.inr ⟨hlt, rfl, ?_, k5⟩⟩
    exact M0.moved l G (by rw [g5.at _ _ (by omega)]; exact v16) (by rw [g5.at _ _ (by omega)]; exact v17) (by rw [g5.at _ _ (by omega)]; exact v18) (by rw [g5.at _ _ (by omega)]; exact v19) (by omega)
  · have g : Agr (fun c k => c = B + 149 ∧ k = 0) h (hset h (B + 149) 0 0) := Agr.rf.set ⟨rfl, rfl⟩
    have G : Agr (unW B) h (hset h (B + 149) 0 0) := g.sub (fun c k w => Or.inl ⟨w.1, Or.inl w.2⟩)
    refine Ends.sm ⟨_, _, rfl, G, hv_set_at .., Or.inl ⟨by omega, rfl, g, ?_⟩⟩
    exact M0.moved l G (by rw [hv_set_ne (by omega)]; exact m16) (by rw [hv_set_ne (by omega)]; exact m17) (by rw [hv_set_ne (by omega)]; exact m18) (by rw [hv_set_ne (by omega)]; exact m19) m1
end MUNDO
