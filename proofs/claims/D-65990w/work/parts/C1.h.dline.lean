/-! L3: the desk does a line -/
section DLINE
variable {gv : Nat → Int} {B n d m p sp k : Nat} {h : AH} {u : Nat → Int} {hc : Nat → Nat} {S : Nat → Nat → Bool}
/-- the solids that are being made -/
def ExS (B n : Nat) (h : AH) (hc : Nat → Nat) (sp : Nat) (S : Nat → Nat → Bool) : Prop := (∀ k, k < 4 → hv h (B + 146) k = rf (hc k) ∧ B + 246 ≤ hc k ∧ hc k < hnx h ∧ hc k ≠ sp ∧ SG n h (hc k) (S k) ∧ ∀ j, j < 4 → j ≠ k → hc j ≠ hc k) ∧ hv h (B + 143) 9 = rf sp ∧ B + 246 ≤ sp ∧ sp < hnx h ∧ hk h sp = (3, 24 * n * n)
def exH (B sp : Nat) (hc : Nat → Nat) : Nat → Nat → Prop := fun c k => (c = B + 143 ∧ k = 14) ∨ c = B + 147 ∨ c = B + 148 ∨ c = B + 52 ∨ c = B + 54 ∨ c = B + 55 ∨ c = B + 106 ∨ c = B + 107 ∨ c = B + 108 ∨ c = sp ∨ ∃ j, j < 4 ∧ c = hc j
theorem ExS.agr {W : Nat → Nat → Prop} {t : AH} (x : ExS B n h hc sp S) (g : Agr W h t) (h1 : ∀ k, ¬ W (B + 146) k) (h2 : ¬ W (B + 143) 9) (h3 : ∀ c k, B + 246 ≤ c → ¬ W c k) : ExS B n t hc sp S := by
  obtain ⟨a, b, c, d, e⟩ := x
  refine ⟨fun k hk => ?_, by rw [g.at _ _ h2]; exact b, c, by rw [g.nx]; exact d, by rw [g.hk]; exact e⟩
  obtain ⟨a1, a2, a3, a4, a5, a6⟩ := a k hk
  exact ⟨by rw [g.at _ _ (h1 k)]; exact a1, a2, by rw [g.nx]; exact a3, a4, a5.agr g (fun j => h3 _ j a2), a6⟩
/-- solid k is another one -/
theorem ExS.put {W : Nat → Nat → Prop} {t : AH} {T : Nat → Bool} (x : ExS B n h hc sp S) (hk4 : k < 4) (g : Agr W h t) (h1 : ∀ k, ¬ W (B + 146) k) (h2 : ¬ W (B + 143) 9) (h3 : ∀ c j, B + 246 ≤ c → c ≠ sp → c ≠ hc k → ¬ W c j) (s : SG n t (hc k) T) : ExS B n t hc sp (upS S k T) := by
  obtain ⟨a, b, c, d, e⟩ := x
  refine ⟨fun i hi => ?_, by rw [g.at _ _ h2]; exact b, c, by rw [g.nx]; exact d, by rw [g.hk]; exact e⟩
  obtain ⟨a1, a2, a3, a4, a5, a6⟩ := a i hi
  refine ⟨by rw [g.at _ _ (h1 i)]; exact a1, a2, by rw [g.nx]; exact a3, a4, ?_, a6⟩
  by_cases ei : i = k
  · rw [ei, upS_at]; exact s
  · rw [upS_ne ei]
    exact a5.agr g (fun j => h3 _ j a2 a4 (fun z => ((a k hk4).2.2.2.2.2 i hi ei) z))
theorem exH_sub {W : Nat → Nat → Prop} {t : AH} (g : Agr W h t) (hW : ∀ c k, W c k → exH B sp hc c k) : Agr (exH B sp hc) h t := g.sub hW
/-- another solid is joined -/
theorem c_join142 {op : Nat} (l : LX B n h) (hd : 18 ≤ d) (hn0 : 0 < n) (hn : n ≤ 52) (T : TxR gv B h) (r : RdC B h m u p) (x : ExS B n h hc sp S) (hk4 : k < 4) (ho : op ≤ 2) :
    Vt 0 (cll PP (ev PP (gsF gv) B) d 142 [(2, rf (B + 143)), (2, rf (hc k)), (0, (op : Int))] h) (fun v h' => Agr (exH B sp hc) h h' ∧ (((wdS u m p [35] && (dgO (ubS u m (p + 1)) && wdS u m (p + 2) [41])) = true ∧ v = 1 ∧ RdC B h' m u (p + 3) ∧ ExS B n h' hc sp (upS S k (fun g => jn (op : Int) (S k g) (S (ubS u m (p + 1) - 48).toNat g)))) ∨ ((wdS u m p [35] && (dgO (ubS u m (p + 1)) && wdS u m (p + 2) [41])) = false ∧ v = 0))) := by
  have hb0 := l.2.2
  have hm := r.m8
  have hp := r.pm
  refine Vt.inq (D := 17) hd (Nat.le_of_ble_eq_true rfl) rfl (fun d hd P K => ?_)
  have at1 : ∀ {q1 q2 : AH}, Agr (atC B) q1 q2 → Agr (exH B sp hc) q1 q2 := fun g => g.sub (fun c k w => Or.inl w)
  have bad : ∀ (q : AH) (u3 : AV), Agr (exH B sp hc) h q → LX B n q → (wdS u m p [35] && (dgO (ubS u m (p + 1)) && wdS u m (p + 2) [41])) = false → Ends (ev PP (gsF gv) B d 142 27 [(2, rf (B + 143)), (2, rf (hc k)), (0, (op : Int)), u3] [] q) P := fun q u3 gq lq w => by
    refine Ends.eq (b142_27 (n := n) (by (repeat' first | assumption | refine LX.setF _ _ ?_ (by decide +kernel) | refine LX.setS ?_ rfl | refine LX.setA ?_ (by first | assumption | omega))) (by first | assumption | omega)) ?_
    exact Ends.sm (K _ _ ⟨gq, Or.inr ⟨w, rfl⟩⟩)
  refine Ends.eq (b142_0 (n := n) (by (repeat' first | assumption | refine LX.setF _ _ ?_ (by decide +kernel) | refine LX.setS ?_ rfl | refine LX.setA ?_ (by first | assumption | omega))) (by first | assumption | omega)) ?_
  refine Ends.ct l (by decide +kernel) (by decide) (c_word156 l (by omega) T.1 r) (fun v q1 l1 _ _ _ ⟨g1, w⟩ => ?_)
  refine Ends.eq (b142_6 (n := n) (by (repeat' first | assumption | refine LX.setF _ _ ?_ (by decide +kernel) | refine LX.setS ?_ rfl | refine LX.setA ?_ (by first | assumption | omega))) (by first | assumption | omega)) ?_
  rcases w with ⟨w1, w2, w3⟩ | ⟨w1, w2, w3⟩
  rotate_left
  · rw [w2]
    exact Ends.b0 (fun _ => bad q1 _ (at1 g1) l1 (by rw [w1, Bool.false_and])) (fun z => absurd rfl z)
  rw [w2]
  have w3 : RdC B q1 m u (p + 1) := w3
  have pm1 := w3.pm
  obtain ⟨b1, b2⟩ := w3.byte (i := p + 1) (by omega)
  refine Ends.b0 (fun z => absurd z (by decide)) (fun _ => ?_)
  rw [w3.at_, b2, v155_dg]
  refine Ends.g b1 ?_
  by_cases dg : dgO (ubS u m (p + 1)) = true
  rotate_left
  · rw [if_neg dg]
    exact Ends.b1 (fun z => absurd rfl z) (fun _ => bad q1 _ (at1 g1) l1 (by rw [Bool.eq_false_iff.mpr dg, Bool.false_and, Bool.and_false]))
  rw [if_pos dg]
  have dc := dgO_c dg
  have pm2 := ub_in (u := u) (m := m) (p := p + 1) rfl (by omega)
  obtain ⟨o, eo⟩ : ∃ o : Nat, ubS u m (p + 1) = (o : Int) + 48 := ⟨(ubS u m (p + 1) - 48).toNat, by omega⟩
  have x1 := x.agr g1 (fun k w => by unfold atC at w; omega) (fun w => by unfold atC at w; omega) (fun c k hc w => by unfold atC at w; omega)
  obtain ⟨y1, y2, y3, y4, y5, y6⟩ := x1.1 o (by omega)
  rw [show bop32 100 (ubS u m (p + 1)) 48 = (o : Int) from by rw [eo, sub32 (by omega) (by omega)]; omega, show bop32 96 ((p + 1 : Nat) : Int) 1 = ((p + 2 : Nat) : Int) from addNN (y := 1) (by omega), tn, y1]
  refine Ends.b1 (fun _ => Ends.g ⟨by omega, by omega⟩ ?_) (fun z => absurd z (by decide))
  have l2 : LX B n (hset q1 (B + 143) 14 ((p + 2 : Nat) : Int)) := LX.setF 143 14 l1 (by decide +kernel)
  have g2 : Agr (atC B) q1 (hset q1 (B + 143) 14 ((p + 2 : Nat) : Int)) := Agr.rf.set ⟨rfl, rfl⟩
  have r2 := w3.to (q := p + 2) pm2
  have x2 := x1.agr g2 (fun k w => by unfold atC at w; omega) (fun w => by unfold atC at w; omega) (fun c k hc w => by unfold atC at w; omega)
  have G2 := (at1 g1).tr (at1 g2) (fun c k w => w)
  have T2 := T.ext G2.ext hb0 (fun c k hc' w => by unfold exH at w; rcases w with w | w | w | w | w | w | w | w | w | w | ⟨j, hj, w⟩ <;> first | omega | (have := x.2.2.1; omega) | (have := (x.1 j hj).2.1; omega))
  generalize hset q1 (B + 143) 14 ((p + 2 : Nat) : Int) = q2 at *
  refine Ends.ct l2 (by decide +kernel) (by decide) (c_word156 l2 (by omega) T2.2.2.2.2.2.1 r2) (fun v q3 l3 _ _ _ ⟨g3, w⟩ => ?_)
  have G3 := G2.tr (at1 g3) (fun c k w => w)
  have x3 := x2.agr g3 (fun k w => by unfold atC at w; omega) (fun w => by unfold atC at w; omega) (fun c k hc w => by unfold atC at w; omega)
  refine Ends.eq (b142_62 (n := n) (by (repeat' first | assumption | refine LX.setF _ _ ?_ (by decide +kernel) | refine LX.setS ?_ rfl | refine LX.setA ?_ (by first | assumption | omega))) (by first | assumption | omega)) ?_
  rcases w with ⟨v1, v2, v3⟩ | ⟨v1, v2, v3⟩
  rotate_left
  · rw [v2]
    exact Ends.b1 (fun z => absurd rfl z) (fun _ => Ends.sm (K _ _ ⟨G3, Or.inr ⟨by rw [v1, Bool.and_false, Bool.and_false], rfl⟩⟩))
  rw [v2]
  refine Ends.b1 (fun _ => ?_) (fun z => absurd z (by decide))
  obtain ⟨z1, z2, z3, z4, z5, z6⟩ := x3.1 k hk4
  refine Ends.cv l3 (by decide +kernel) (c_join (op := (op : Int)) l3 (by omega) hn z5 (x3.1 o (by omega)).2.2.2.2.1 (by omega)) (fun q4 l4 _ _ _ ⟨f4, s4⟩ => ?_)
  have g4 := f4.fr.agr
  refine Ends.eq (b142_77 (n := n) (by (repeat' first | assumption | refine LX.setF _ _ ?_ (by decide +kernel) | refine LX.setS ?_ rfl | refine LX.setA ?_ (by first | assumption | omega))) (by first | assumption | omega)) ?_
  have s4' : SG n q4 (hc k) (fun g => jn (op : Int) (S k g) (S o g)) := SG.of hn0 s4 (fun t z y x ht hz hy hx => by rw [onK_at hz hy, onK_at hz hy])
  refine Ends.sm (K _ _ ⟨G3.tr g4 (fun c j w => ?_), Or.inl ⟨by rw [w1, dg, v1]; rfl, rfl, ?_, ?_⟩⟩)
  · exact Or.inr (Or.inr (Or.inr (Or.inr (Or.inr (Or.inr (Or.inr (Or.inr (Or.inr (Or.inr ⟨k, hk4, w⟩)))))))))
  · exact v3.agr g4 (fun k' _ _ w => by omega) (fun k' w => by omega)
  · rw [show (ubS u m (p + 1) - 48).toNat = o by omega]
    exact x3.put hk4 g4 (fun j w => by omega) (by omega) (fun c j hc' h1 h2 w => h2 w) s4'
theorem ext_tx {t : AH} (T : TxR gv B h) (hb0 : B + 246 ≤ hnx h) (x : ExS B n h hc sp S) (g : Agr (exH B sp hc) h t) : TxR gv B t :=
  T.ext g.ext hb0 (fun c k hc' w => by unfold exH at w; rcases w with w | w | w | w | w | w | w | w | w | w | ⟨j, hj, w⟩ <;> first | omega | (have := x.2.2.1; omega) | (have := (x.1 j hj).2.1; omega))
theorem ext_tb {t : AH} (T : TbC B h) (hb0 : B + 246 ≤ hnx h) (x : ExS B n h hc sp S) (g : Agr (exH B sp hc) h t) : TbC B t :=
  T.ext hb0 g.ext (fun c k h1 h2 w => by unfold exH at w; rcases w with w | w | w | w | w | w | w | w | w | w | ⟨j, hj, w⟩ <;> first | omega | (have := x.2.2.1; omega) | (have := (x.1 j hj).2.1; omega))
def exL (B sp : Nat) (hc : Nat → Nat) : Nat → Nat → Prop := fun c k => exH B sp hc c k ∨ (c = B + 143 ∧ k = 15)
theorem ext_tx2 {t : AH} (T : TxR gv B h) (hb0 : B + 246 ≤ hnx h) (x : ExS B n h hc sp S) (g : Agr (exL B sp hc) h t) : TxR gv B t :=
  T.ext g.ext hb0 (fun c k hc' w => by unfold exL exH at w; rcases w with (w | w | w | w | w | w | w | w | w | w | ⟨j, hj, w⟩) | w <;> first | omega | (have := x.2.2.1; omega) | (have := (x.1 j hj).2.1; omega))
theorem ext_tb2 {t : AH} (T : TbC B h) (hb0 : B + 246 ≤ hnx h) (x : ExS B n h hc sp S) (g : Agr (exL B sp hc) h t) : TbC B t :=
  T.ext hb0 g.ext (fun c k h1 h2 w => by unfold exL exH at w; rcases w with (w | w | w | w | w | w | w | w | w | w | ⟨j, hj, w⟩) | w <;> first | omega | (have := x.2.2.1; omega) | (have := (x.1 j hj).2.1; omega))
theorem exH_15 (x : ExS B n h hc sp S) : ¬ exH B sp hc (B + 143) 15 := fun w => by
  unfold exH at w
  rcases w with w | w | w | w | w | w | w | w | w | w | ⟨j, hj, w⟩ <;> first | omega | (have := x.2.2.1; omega) | (have := (x.1 j hj).2.1; omega)
/-- what a line of the desk comes to -/
def LnC (B n : Nat) (h : AH) (m : Nat) (u : Nat → Int) (p : Nat) (hc : Nat → Nat) (sp : Nat) (S : Nat → Nat → Bool) (v : Int) (h' : AH) : Prop := Agr (exH B sp hc) h h' ∧ ((∃ k kd o e, lnS u m n p = some (k, kd, o, e) ∧ v = 1 ∧ RdC B h' m u e ∧ k < 4 ∧ ExS B n h' hc sp (upS S k (apS n kd (nsV u m (lnQ u m p)) o S k))) ∨ (lnS u m n p = none ∧ v = 0))
theorem c_call137 (l : LX B n h) (hd : 24 ≤ d) (hn4 : 4 ≤ n) (hn : n ≤ 52) (mt : TbC B h) (T : TxR gv B h) (r : RdC B h m u p) (x : ExS B n h hc sp S) :
    Vt 0 (cll PP (ev PP (gsF gv) B) d 137 [(2, rf (B + 143))] h) (fun v h' => LnC B n h m u p hc sp S v h') := by
  have hb0 := l.2.2
  have hn0 : 0 < n := by omega
  have hm := r.m8
  have hp := r.pm
  refine Vt.inq (D := 23) hd (Nat.le_of_ble_eq_true rfl) rfl (fun d hd P K => ?_)
  have at1 : ∀ {q1 q2 : AH}, Agr (atC B) q1 q2 → Agr (exH B sp hc) q1 q2 := fun g => g.sub (fun c k w => Or.inl w)
  have rw1 : ∀ {q1 q2 : AH}, Agr (rwC B) q1 q2 → Agr (exH B sp hc) q1 q2 := fun g => g.sub (fun c k w => by rcases w with w | w; exact Or.inl w; exact Or.inr (Or.inl w))
  have xrw : ∀ {q1 q2 : AH}, ExS B n q1 hc sp S → Agr (rwC B) q1 q2 → ExS B n q2 hc sp S := fun x g => x.agr g (fun k w => by unfold rwC at w; omega) (fun w => by unfold rwC at w; omega) (fun c k hc w => by unfold rwC at w; omega)
  have rwat : ∀ {q1 q2 : AH}, Agr (atC B) q1 q2 → Agr (rwC B) q1 q2 := fun g => g.sub (fun c k w => Or.inl w)
  refine Ends.eq (b137_0 (n := n) (by (repeat' first | assumption | refine LX.setF _ _ ?_ (by decide +kernel) | refine LX.setS ?_ rfl | refine LX.setA ?_ (by first | assumption | omega))) (by first | assumption | omega)) ?_
  refine Ends.ct l (by decide +kernel) (by decide) (c_word156 l (by omega) T.1 r) (fun v q1 l1 _ _ _ ⟨g1, w⟩ => ?_)
  have bad27 : ∀ (q : AH) (u1 : AV), Agr (exH B sp hc) h q → LX B n q → lnS u m n p = none → Ends (ev PP (gsF gv) B d 137 27 [(2, rf (B + 143)), u1] [] q) P := fun q u1 gq lq w => by
    refine Ends.eq (b137_27 (n := n) (by (repeat' first | assumption | refine LX.setF _ _ ?_ (by decide +kernel) | refine LX.setS ?_ rfl | refine LX.setA ?_ (by first | assumption | omega))) (by first | assumption | omega)) ?_
    exact Ends.sm (K _ _ ⟨gq, Or.inr ⟨w, rfl⟩⟩)
  refine Ends.eq (b137_6 (n := n) (by (repeat' first | assumption | refine LX.setF _ _ ?_ (by decide +kernel) | refine LX.setS ?_ rfl | refine LX.setA ?_ (by first | assumption | omega))) (by first | assumption | omega)) ?_
  rcases w with ⟨w1, w2, w3⟩ | ⟨w1, w2, w3⟩
  rotate_left
  · rw [w2]
    exact Ends.b0 (fun _ => bad27 q1 _ (at1 g1) l1 (by unfold lnS; rw [w1, Bool.false_and]; rfl)) (fun z => absurd rfl z)
  rw [w2]
  have w3 : RdC B q1 m u (p + 1) := w3
  have pm1 := w3.pm
  obtain ⟨b1, b2⟩ := w3.byte (i := p + 1) (by omega)
  refine Ends.b0 (fun z => absurd z (by decide)) (fun _ => ?_)
  rw [w3.at_, b2, v155_dg]
  refine Ends.g b1 ?_
  by_cases dg : dgO (ubS u m (p + 1)) = true
  rotate_left
  · rw [if_neg dg]
    exact Ends.b1 (fun z => absurd rfl z) (fun _ => bad27 q1 _ (at1 g1) l1 (by unfold lnS; rw [Bool.eq_false_iff.mpr dg, Bool.false_and, Bool.and_false]; rfl))
  rw [if_pos dg]
  have dc := dgO_c dg
  have pm2 := ub_in (u := u) (m := m) (p := p + 1) rfl (by omega)
  obtain ⟨k, ek⟩ : ∃ k : Nat, ubS u m (p + 1) = (k : Int) + 48 := ⟨(ubS u m (p + 1) - 48).toNat, by omega⟩
  have hk4 : k < 4 := by omega
  have ek2 : (ubS u m (p + 1) - 48).toNat = k := by omega
  have x1 := xrw x (rwat g1)
  obtain ⟨y1, y2, y3, y4, y5, y6⟩ := x1.1 k hk4
  rw [show bop32 100 (ubS u m (p + 1)) 48 = (k : Int) from by rw [ek, sub32 (by omega) (by omega)]; omega, show bop32 96 ((p + 1 : Nat) : Int) 1 = ((p + 2 : Nat) : Int) from addNN (y := 1) (by omega), tn, y1]
  refine Ends.b1 (fun _ => Ends.g ⟨by omega, by omega⟩ ?_) (fun z => absurd z (by decide))
  have l2 : LX B n (hset q1 (B + 143) 14 ((p + 2 : Nat) : Int)) := LX.setF 143 14 l1 (by decide +kernel)
  have g2 : Agr (atC B) q1 (hset q1 (B + 143) 14 ((p + 2 : Nat) : Int)) := Agr.rf.set ⟨rfl, rfl⟩
  have r2 := w3.to (q := p + 2) pm2
  have x2 := xrw x1 (rwat g2)
  have G2 : Agr (rwC B) h (hset q1 (B + 143) 14 ((p + 2 : Nat) : Int)) := (rwat g1).tr g2 (fun c k w => Or.inl w)
  have T2 := ext_tx T hb0 x (rw1 G2)
  generalize hset q1 (B + 143) 14 ((p + 2 : Nat) : Int) = q2 at *
  refine Ends.ct l2 (by decide +kernel) (by decide) (c_word156 l2 (by omega) T2.2.1 r2) (fun v q3 l3 _ _ _ ⟨g3, w⟩ => ?_)
  have G3 : Agr (rwC B) h q3 := G2.tr g3 (fun c k w => Or.inl w)
  refine Ends.eq (b137_62 (n := n) (by (repeat' first | assumption | refine LX.setF _ _ ?_ (by decide +kernel) | refine LX.setS ?_ rfl | refine LX.setA ?_ (by first | assumption | omega))) (by first | assumption | omega)) ?_
  rcases w with ⟨v1, v2, v3⟩ | ⟨v1, v2, v3⟩
  rotate_left
  · rw [v2]
    exact Ends.b1 (fun z => absurd rfl z) (fun _ => Ends.sm (K _ _ ⟨rw1 G3, Or.inr ⟨by unfold lnS; rw [v1, Bool.and_false, Bool.and_false]; rfl, rfl⟩⟩))
  rw [v2]
  refine Ends.b1 (fun _ => ?_) (fun z => absurd z (by decide))
  have v3 : RdC B q3 m u (p + 3) := v3
  have x3 := xrw x2 (rwat g3)
  have T3 := ext_tx T hb0 x (rw1 G3)
  have m3 := ext_tb mt hb0 x (rw1 G3)
  have eL : lnS u m n p = lnR u m n k (kwI u m (p + 3)) (lnQ u m p) := by
    unfold lnS
    rw [w1, dg, v1, ek2]; rfl
  -- the end of a line that is none
  have none_ : ∀ (q : AH) (v : Int), Agr (exH B sp hc) h q → lnS u m n p = none → v = 0 → P ((0, (0, v)), q) := fun q v gq e ev_ => K _ _ ⟨gq, Or.inr ⟨e, ev_⟩⟩
  have some_ : ∀ (q q4 : AH) (v : Int) (kd o e : Nat) (W : Nat → Nat → Prop) (TT : Nat → Bool), Agr (exH B sp hc) h q → ExS B n q hc sp S → RdC B q m u e → Agr W q q4 → (∀ c j, W c j → exH B sp hc c j) → (∀ c j, W c j → (c ≠ B + 143 ∧ c ≠ B + 26 ∧ c ≠ B + 146) ∧ (B + 246 ≤ c → c = sp ∨ c = hc k)) → SG n q4 (hc k) TT → lnS u m n p = some (k, kd, o, e) → apS n kd (nsV u m (lnQ u m p)) o S k = TT → v = 1 → P ((0, (0, v)), q4) := fun q q4 v kd o e W TT gq xq rq g hW hW2 s eS eA ev_ => by
    refine K _ _ ⟨gq.tr g hW, Or.inl ⟨k, kd, o, e, eS, ev_, rq.agr g (fun k' _ _ w => (hW2 _ _ w).1.1 rfl) (fun k' w => (hW2 _ _ w).1.2.1 rfl), hk4, ?_⟩⟩
    rw [eA]
    exact xq.put hk4 g (fun j w => (hW2 _ _ w).1.2.2 rfl) (fun w => (hW2 _ _ w).1.1 rfl) (fun c j hc' h1 h2 w => by rcases (hW2 _ _ w).2 hc' with z | z; exact h1 z; exact h2 z) s
  -- numbers
  have num : ∀ (q : AH) (many : Nat) (q0 : Nat), LX B n q → Agr (rwC B) h q → RdC B q m u q0 → many ≤ 6 → Vt 0 (cll PP (ev PP (gsF gv) B) d 145 [(2, rf (B + 143)), (0, (many : Int))] q) (fun v h' => Agr (rwC B) q h' ∧ ((∃ e, nuS u m q0 many = some e ∧ v = 1 ∧ RdC B h' m u e ∧ NbC B h' many (nsV u m q0)) ∨ (nuS u m q0 many = none ∧ v = 0))) := fun q many q0 lq gq rq h6 => by
    have Tq := ext_tx T hb0 x (rw1 gq)
    exact c_nums145 lq (by omega) Tq.2.2.2.2.2.1 Tq.2.2.2.2.2.2.1 rq h6
  have kwP : ∀ kd, kd < 10 → TxS gv B q3 (gv (kd + 2)) (kwT kd) := fun kd hk => T3.2.2.1 kd hk
  have hold : ∀ c, c = hc k → ∀ {j : Nat}, exH B sp hc c j := fun c w {j} => Or.inr (Or.inr (Or.inr (Or.inr (Or.inr (Or.inr (Or.inr (Or.inr (Or.inr (Or.inr ⟨k, hk4, w⟩)))))))))
  have spare : ∀ c, c = sp → ∀ {j : Nat}, exH B sp hc c j := fun c w {j} => Or.inr (Or.inr (Or.inr (Or.inr (Or.inr (Or.inr (Or.inr (Or.inr (Or.inr (Or.inl w)))))))))
  refine Ends.ct l3 (by decide +kernel) (by decide) (c_word156 l3 (by omega) (kwP 0 (by decide)) v3) (fun v4 q4 l4 _ _ _ ⟨g4, ww⟩ => ?_)
  have G4 : Agr (rwC B) h q4 := G3.tr g4 (fun c j w => Or.inl w)
  have G34 : Agr (rwC B) q3 q4 := rwat g4
  refine Ends.eq (b137_73 (n := n) (by (repeat' first | assumption | refine LX.setF _ _ ?_ (by decide +kernel) | refine LX.setS ?_ rfl | refine LX.setA ?_ (by first | assumption | omega))) (by first | assumption | omega)) ?_
  rcases ww with ⟨t01, e4, t03⟩ | ⟨t01, e4, t03⟩
  · rw [e4]
    refine Ends.b0 (fun z => absurd z (by decide)) (fun _ => ?_)
    have ekw : kwI u m (p + 3) = 0 := by unfold kwI; rw [t01]; rfl
    have eQ : lnQ u m p = p + 3 + 4 := by unfold lnQ; rw [ekw]; rfl
    have eL' : lnS u m n p = lnR u m n k 0 (lnQ u m p) := by rw [eL, ekw]
    have t4 : RdC B q4 m u (lnQ u m p) := by rw [eQ]; exact t03
    refine Ends.ct l4 (by decide +kernel) (by decide) (num q4 5 (lnQ u m p) l4 G4 t4 (by decide)) (fun v5 q5 l5 _ _ _ ⟨g5, ww⟩ => ?_)
    have G5 : Agr (rwC B) h q5 := G4.tr g5 (fun c j w => w)
    have x5 := xrw (xrw x3 G34) g5
    have m5 := ext_tb mt hb0 x (rw1 G5)
    refine Ends.eq (b137_81 (n := n) (by (repeat' first | assumption | refine LX.setF _ _ ?_ (by decide +kernel) | refine LX.setS ?_ rfl | refine LX.setA ?_ (by first | assumption | omega))) (by first | assumption | omega)) ?_
    rcases ww with ⟨e, en, ev5, r5, b5⟩ | ⟨en, ev5⟩
    rotate_left
    · rw [ev5]
      refine Ends.b0 (fun _ => ?_) (fun z => absurd rfl z)
      refine Ends.eq (b137_96 (n := n) (by (repeat' first | assumption | refine LX.setF _ _ ?_ (by decide +kernel) | refine LX.setS ?_ rfl | refine LX.setA ?_ (by first | assumption | omega))) (by first | assumption | omega)) ?_
      refine Ends.eq (b137_97 (n := n) (by (repeat' first | assumption | refine LX.setF _ _ ?_ (by decide +kernel) | refine LX.setS ?_ rfl | refine LX.setA ?_ (by first | assumption | omega))) (by first | assumption | omega)) ?_
      exact Ends.g (Or.inl rfl) (Ends.sm (none_ _ _ (rw1 G5) (by rw [eL']; show (match nuS u m (lnQ u m p) 5 with | none => none | some e => _) = none; rw [en]) rfl))
    rw [ev5]
    refine Ends.b0 (fun z => absurd z (by decide)) (fun _ => ?_)
    refine Ends.ct l5 (by decide +kernel) (by decide) (c_run148 l5 (by omega) hn0 hn b5 (x5.1 k hk4).2.2.2.2.1 (x5.1 k hk4).2.1 (fun j _ => nsV_b)) (fun v6 q6 l6 _ _ _ ww => ?_)
    refine Ends.eq (b137_89 (n := n) (by (repeat' first | assumption | refine LX.setF _ _ ?_ (by decide +kernel) | refine LX.setS ?_ rfl | refine LX.setA ?_ (by first | assumption | omega))) (by first | assumption | omega)) ?_
    rcases ww with ⟨ok, e6, g6, s6⟩ | ⟨ok, e6, e7⟩
    · rw [e6]
      refine Ends.sm (some_ q5 q6 _ 0 0 e _ _ (rw1 G5) x5 r5 g6 (fun c j w => hold c w) (fun c j w => ⟨by omega, fun _ => Or.inr w⟩) s6 (by rw [eL']; show (match nuS u m (lnQ u m p) 5 with | none => none | some e => if bdS n 0 (nsV u m (lnQ u m p)) = true then some (k, 0, 0, e) else none) = _; rw [en]; show (if runOK n (nsV u m (lnQ u m p)) = true then _ else _) = _; rw [ok]; rfl) rfl rfl)
    · rw [e6, e7]
      exact Ends.sm (none_ _ _ (rw1 G5) (by rw [eL']; show (match nuS u m (lnQ u m p) 5 with | none => none | some e => if bdS n 0 (nsV u m (lnQ u m p)) = true then some (k, 0, 0, e) else none) = _; rw [en]; show (if runOK n (nsV u m (lnQ u m p)) = true then _ else _) = _; rw [ok]; rfl) rfl)
  rw [e4, t03]
  refine Ends.b0 (fun _ => ?_) (fun z => absurd rfl z)
  refine Ends.ct l3 (by decide +kernel) (by decide) (c_word156 l3 (by omega) (kwP 1 (by decide)) v3) (fun v4 q4 l4 _ _ _ ⟨g4, ww⟩ => ?_)
  have G4 : Agr (rwC B) h q4 := G3.tr g4 (fun c j w => Or.inl w)
  have G34 : Agr (rwC B) q3 q4 := rwat g4
  refine Ends.eq (b137_104 (n := n) (by (repeat' first | assumption | refine LX.setF _ _ ?_ (by decide +kernel) | refine LX.setS ?_ rfl | refine LX.setA ?_ (by first | assumption | omega))) (by first | assumption | omega)) ?_
  rcases ww with ⟨t11, e4, t13⟩ | ⟨t11, e4, t13⟩
  · rw [e4]
    refine Ends.b0 (fun z => absurd z (by decide)) (fun _ => ?_)
    have ekw : kwI u m (p + 3) = 1 := by unfold kwI; rw [t01, t11]; rfl
    have eQ : lnQ u m p = p + 3 + 6 := by unfold lnQ; rw [ekw]; rfl
    have eL' : lnS u m n p = lnR u m n k 1 (lnQ u m p) := by rw [eL, ekw]
    have t4 : RdC B q4 m u (lnQ u m p) := by rw [eQ]; exact t13
    refine Ends.ct l4 (by decide +kernel) (by decide) (num q4 6 (lnQ u m p) l4 G4 t4 (by decide)) (fun v5 q5 l5 _ _ _ ⟨g5, ww⟩ => ?_)
    have G5 : Agr (rwC B) h q5 := G4.tr g5 (fun c j w => w)
    have x5 := xrw (xrw x3 G34) g5
    have m5 := ext_tb mt hb0 x (rw1 G5)
    refine Ends.eq (b137_113 (n := n) (by (repeat' first | assumption | refine LX.setF _ _ ?_ (by decide +kernel) | refine LX.setS ?_ rfl | refine LX.setA ?_ (by first | assumption | omega))) (by first | assumption | omega)) ?_
    rcases ww with ⟨e, en, ev5, r5, b5⟩ | ⟨en, ev5⟩
    rotate_left
    · rw [ev5]
      refine Ends.b0 (fun _ => ?_) (fun z => absurd rfl z)
      refine Ends.eq (b137_138 (n := n) (by (repeat' first | assumption | refine LX.setF _ _ ?_ (by decide +kernel) | refine LX.setS ?_ rfl | refine LX.setA ?_ (by first | assumption | omega))) (by first | assumption | omega)) ?_
      refine Ends.eq (b137_139 (n := n) (by (repeat' first | assumption | refine LX.setF _ _ ?_ (by decide +kernel) | refine LX.setS ?_ rfl | refine LX.setA ?_ (by first | assumption | omega))) (by first | assumption | omega)) ?_
      exact Ends.g (Or.inl rfl) (Ends.sm (none_ _ _ (rw1 G5) (by rw [eL']; show (match nuS u m (lnQ u m p) 6 with | none => none | some e => _) = none; rw [en]) rfl))
    rw [ev5]
    refine Ends.b0 (fun z => absurd z (by decide)) (fun _ => ?_)
    have eB : lnS u m n p = if bdS n 1 (nsV u m (lnQ u m p)) = true then some (k, 1, 0, e) else none := by rw [eL']; show (match nuS u m (lnQ u m p) 6 with | none => none | some e => if bdS n 1 (nsV u m (lnQ u m p)) = true then some (k, 1, 0, e) else none) = _; rw [en]
    refine Ends.ct l5 (by decide +kernel) (by decide) (c_fields140 (many := 6) l5 (by omega) b5 (by decide)) (fun v6 q6 l6 _ _ _ ⟨e6, ww⟩ => ?_)
    subst e6
    refine Ends.eq (b137_123 (n := n) (by (repeat' first | assumption | refine LX.setF _ _ ?_ (by decide +kernel) | refine LX.setS ?_ rfl | refine LX.setA ?_ (by first | assumption | omega))) (by first | assumption | omega)) ?_
    rcases ww with ⟨e6, bd⟩ | ⟨e6, bd⟩
    rotate_left
    · rw [e6]
      refine Ends.b0 (fun _ => ?_) (fun z => absurd rfl z)
      refine Ends.eq (b137_138 (n := n) (by (repeat' first | assumption | refine LX.setF _ _ ?_ (by decide +kernel) | refine LX.setS ?_ rfl | refine LX.setA ?_ (by first | assumption | omega))) (by first | assumption | omega)) ?_
      refine Ends.eq (b137_139 (n := n) (by (repeat' first | assumption | refine LX.setF _ _ ?_ (by decide +kernel) | refine LX.setS ?_ rfl | refine LX.setA ?_ (by first | assumption | omega))) (by first | assumption | omega)) ?_
      exact Ends.g (Or.inl rfl) (Ends.sm (none_ _ _ (rw1 G5) (by rw [eB]; show (if bd200 (nsV u m (lnQ u m p)) 6 = true then _ else _) = _; rw [if_neg (fun z => bd (bd200_iff.mp z))]) rfl))
    rw [e6]
    refine Ends.b0 (fun z => absurd z (by decide)) (fun _ => ?_)
    refine Ends.ct l6 (by decide +kernel) (by decide) (c_block135 l6 (by omega) hn0 hn m5 b5 (x5.1 k hk4).2.2.2.2.1 (x5.1 k hk4).2.1 bd) (fun v7 q7 l7 _ _ _ ⟨e7, g7, s7⟩ => ?_)
    refine Ends.eq (b137_131 (n := n) (by (repeat' first | assumption | refine LX.setF _ _ ?_ (by decide +kernel) | refine LX.setS ?_ rfl | refine LX.setA ?_ (by first | assumption | omega))) (by first | assumption | omega)) ?_
    rw [e7]
    exact Ends.sm (some_ q6 q7 _ 1 0 e _ _ (rw1 G5) x5 r5 g7 (fun c j w => by rcases w with w | w; exact hold c w; exact Or.inr (Or.inr (Or.inl w))) (fun c j w => ⟨by omega, fun hh => by rcases w with w | w; exact Or.inr w; omega⟩) s7 (by rw [eB]; show (if bd200 (nsV u m (lnQ u m p)) 6 = true then _ else _) = _; rw [if_pos (bd200_iff.mpr bd)]) rfl rfl)
  rw [e4, t13]
  refine Ends.b0 (fun _ => ?_) (fun z => absurd rfl z)
  refine Ends.ct l3 (by decide +kernel) (by decide) (c_word156 l3 (by omega) (kwP 2 (by decide)) v3) (fun v4 q4 l4 _ _ _ ⟨g4, ww⟩ => ?_)
  have G4 : Agr (rwC B) h q4 := G3.tr g4 (fun c j w => Or.inl w)
  have G34 : Agr (rwC B) q3 q4 := rwat g4
  refine Ends.eq (b137_146 (n := n) (by (repeat' first | assumption | refine LX.setF _ _ ?_ (by decide +kernel) | refine LX.setS ?_ rfl | refine LX.setA ?_ (by first | assumption | omega))) (by first | assumption | omega)) ?_
  rcases ww with ⟨t21, e4, t23⟩ | ⟨t21, e4, t23⟩
  · rw [e4]
    refine Ends.b0 (fun z => absurd z (by decide)) (fun _ => ?_)
    have ekw : kwI u m (p + 3) = 2 := by unfold kwI; rw [t01, t11, t21]; rfl
    have eQ : lnQ u m p = p + 3 + 5 := by unfold lnQ; rw [ekw]; rfl
    have eL' : lnS u m n p = lnR u m n k 2 (lnQ u m p) := by rw [eL, ekw]
    have t4 : RdC B q4 m u (lnQ u m p) := by rw [eQ]; exact t23
    refine Ends.ct l4 (by decide +kernel) (by decide) (num q4 6 (lnQ u m p) l4 G4 t4 (by decide)) (fun v5 q5 l5 _ _ _ ⟨g5, ww⟩ => ?_)
    have G5 : Agr (rwC B) h q5 := G4.tr g5 (fun c j w => w)
    have x5 := xrw (xrw x3 G34) g5
    have m5 := ext_tb mt hb0 x (rw1 G5)
    refine Ends.eq (b137_155 (n := n) (by (repeat' first | assumption | refine LX.setF _ _ ?_ (by decide +kernel) | refine LX.setS ?_ rfl | refine LX.setA ?_ (by first | assumption | omega))) (by first | assumption | omega)) ?_
    rcases ww with ⟨e, en, ev5, r5, b5⟩ | ⟨en, ev5⟩
    rotate_left
    · rw [ev5]
      refine Ends.b0 (fun _ => ?_) (fun z => absurd rfl z)
      refine Ends.eq (b137_180 (n := n) (by (repeat' first | assumption | refine LX.setF _ _ ?_ (by decide +kernel) | refine LX.setS ?_ rfl | refine LX.setA ?_ (by first | assumption | omega))) (by first | assumption | omega)) ?_
      refine Ends.eq (b137_181 (n := n) (by (repeat' first | assumption | refine LX.setF _ _ ?_ (by decide +kernel) | refine LX.setS ?_ rfl | refine LX.setA ?_ (by first | assumption | omega))) (by first | assumption | omega)) ?_
      exact Ends.g (Or.inl rfl) (Ends.sm (none_ _ _ (rw1 G5) (by rw [eL']; show (match nuS u m (lnQ u m p) 6 with | none => none | some e => _) = none; rw [en]) rfl))
    rw [ev5]
    refine Ends.b0 (fun z => absurd z (by decide)) (fun _ => ?_)
    have eB : lnS u m n p = if bdS n 2 (nsV u m (lnQ u m p)) = true then some (k, 2, 0, e) else none := by rw [eL']; show (match nuS u m (lnQ u m p) 6 with | none => none | some e => if bdS n 2 (nsV u m (lnQ u m p)) = true then some (k, 2, 0, e) else none) = _; rw [en]
    refine Ends.ct l5 (by decide +kernel) (by decide) (c_fields140 (many := 6) l5 (by omega) b5 (by decide)) (fun v6 q6 l6 _ _ _ ⟨e6, ww⟩ => ?_)
    subst e6
    refine Ends.eq (b137_165 (n := n) (by (repeat' first | assumption | refine LX.setF _ _ ?_ (by decide +kernel) | refine LX.setS ?_ rfl | refine LX.setA ?_ (by first | assumption | omega))) (by first | assumption | omega)) ?_
    rcases ww with ⟨e6, bd⟩ | ⟨e6, bd⟩
    rotate_left
    · rw [e6]
      refine Ends.b0 (fun _ => ?_) (fun z => absurd rfl z)
      refine Ends.eq (b137_180 (n := n) (by (repeat' first | assumption | refine LX.setF _ _ ?_ (by decide +kernel) | refine LX.setS ?_ rfl | refine LX.setA ?_ (by first | assumption | omega))) (by first | assumption | omega)) ?_
      refine Ends.eq (b137_181 (n := n) (by (repeat' first | assumption | refine LX.setF _ _ ?_ (by decide +kernel) | refine LX.setS ?_ rfl | refine LX.setA ?_ (by first | assumption | omega))) (by first | assumption | omega)) ?_
      exact Ends.g (Or.inl rfl) (Ends.sm (none_ _ _ (rw1 G5) (by rw [eB]; show (if (bd200 (nsV u m (lnQ u m p)) 6 && holeOK (nsV u m (lnQ u m p))) = true then _ else _) = _; rw [Bool.eq_false_iff.mpr (fun z => bd (bd200_iff.mp z)), Bool.false_and]; rfl) rfl))
    rw [e6]
    refine Ends.b0 (fun z => absurd z (by decide)) (fun _ => ?_)
    refine Ends.ct l6 (by decide +kernel) (by decide) (c_hole141 l6 (by omega) hn0 hn m5 b5 (x5.1 k hk4).2.2.2.2.1 (x5.1 k hk4).2.1 bd) (fun v7 q7 l7 _ _ _ ww => ?_)
    refine Ends.eq (b137_173 (n := n) (by (repeat' first | assumption | refine LX.setF _ _ ?_ (by decide +kernel) | refine LX.setS ?_ rfl | refine LX.setA ?_ (by first | assumption | omega))) (by first | assumption | omega)) ?_
    have eB2 : lnS u m n p = if holeOK (nsV u m (lnQ u m p)) = true then some (k, 2, 0, e) else none := by rw [eB]; show (if (bd200 (nsV u m (lnQ u m p)) 6 && holeOK (nsV u m (lnQ u m p))) = true then _ else _) = _; rw [bd200_iff.mpr bd, Bool.true_and]
    rcases ww with ⟨ok, e7, g7, s7⟩ | ⟨ok, e7, e8⟩
    · rw [e7]
      exact Ends.sm (some_ q6 q7 _ 2 0 e _ _ (rw1 G5) x5 r5 g7 (fun c j w => by rcases w with w | w; exact hold c w; exact Or.inr (Or.inr (Or.inl w))) (fun c j w => ⟨by omega, fun hh => by rcases w with w | w; exact Or.inr w; omega⟩) s7 (by rw [eB2, ok]; rfl) rfl rfl)
    · rw [e7, e8]
      exact Ends.sm (none_ _ _ (rw1 G5) (by rw [eB2, ok]; rfl) rfl)
  rw [e4, t23]
  refine Ends.b0 (fun _ => ?_) (fun z => absurd rfl z)
  refine Ends.ct l3 (by decide +kernel) (by decide) (c_word156 l3 (by omega) (kwP 3 (by decide)) v3) (fun v4 q4 l4 _ _ _ ⟨g4, ww⟩ => ?_)
  have G4 : Agr (rwC B) h q4 := G3.tr g4 (fun c j w => Or.inl w)
  have G34 : Agr (rwC B) q3 q4 := rwat g4
  refine Ends.eq (b137_188 (n := n) (by (repeat' first | assumption | refine LX.setF _ _ ?_ (by decide +kernel) | refine LX.setS ?_ rfl | refine LX.setA ?_ (by first | assumption | omega))) (by first | assumption | omega)) ?_
  rcases ww with ⟨t31, e4, t33⟩ | ⟨t31, e4, t33⟩
  · rw [e4]
    refine Ends.b0 (fun z => absurd z (by decide)) (fun _ => ?_)
    have ekw : kwI u m (p + 3) = 3 := by unfold kwI; rw [t01, t11, t21, t31]; rfl
    have eQ : lnQ u m p = p + 3 + 6 := by unfold lnQ; rw [ekw]; rfl
    have eL' : lnS u m n p = lnR u m n k 3 (lnQ u m p) := by rw [eL, ekw]
    have t4 : RdC B q4 m u (lnQ u m p) := by rw [eQ]; exact t33
    refine Ends.ct l4 (by decide +kernel) (by decide) (c_join142 (op := 0) l4 (by omega) hn0 hn (ext_tx T hb0 x (rw1 G4)) t4 (xrw x3 G34) hk4 (by decide)) (fun v6 q6 l6 _ _ _ ⟨g6, ww⟩ => ?_)
    refine Ends.eq (b137_197 (n := n) (by (repeat' first | assumption | refine LX.setF _ _ ?_ (by decide +kernel) | refine LX.setS ?_ rfl | refine LX.setA ?_ (by first | assumption | omega))) (by first | assumption | omega)) ?_
    rcases ww with ⟨ok, e6, r6, x6⟩ | ⟨ok, e6⟩
    · rw [e6]
      refine Ends.g (Or.inr rfl) (Ends.sm (K _ _ ⟨(rw1 G4).tr g6 (fun c j w => w), Or.inl ⟨k, 3, (ubS u m (lnQ u m p + 1) - 48).toNat, lnQ u m p + 3, ?_, rfl, r6, hk4, x6⟩⟩))
      rw [eL']
      show (if (wdS u m (lnQ u m p) [35] && (dgO (ubS u m (lnQ u m p + 1)) && wdS u m (lnQ u m p + 2) [41])) = true then _ else _) = _
      rw [if_pos ok]
    · rw [e6]
      refine Ends.g (Or.inl rfl) (Ends.sm (none_ _ _ ((rw1 G4).tr g6 (fun c j w => w)) ?_ rfl))
      rw [eL']
      show (if (wdS u m (lnQ u m p) [35] && (dgO (ubS u m (lnQ u m p + 1)) && wdS u m (lnQ u m p + 2) [41])) = true then _ else _) = _
      rw [ok]; rfl
  rw [e4, t33]
  refine Ends.b0 (fun _ => ?_) (fun z => absurd rfl z)
  refine Ends.ct l3 (by decide +kernel) (by decide) (c_word156 l3 (by omega) (kwP 4 (by decide)) v3) (fun v4 q4 l4 _ _ _ ⟨g4, ww⟩ => ?_)
  have G4 : Agr (rwC B) h q4 := G3.tr g4 (fun c j w => Or.inl w)
  have G34 : Agr (rwC B) q3 q4 := rwat g4
  refine Ends.eq (b137_204 (n := n) (by (repeat' first | assumption | refine LX.setF _ _ ?_ (by decide +kernel) | refine LX.setS ?_ rfl | refine LX.setA ?_ (by first | assumption | omega))) (by first | assumption | omega)) ?_
  rcases ww with ⟨t41, e4, t43⟩ | ⟨t41, e4, t43⟩
  · rw [e4]
    refine Ends.b0 (fun z => absurd z (by decide)) (fun _ => ?_)
    have ekw : kwI u m (p + 3) = 4 := by unfold kwI; rw [t01, t11, t21, t31, t41]; rfl
    have eQ : lnQ u m p = p + 3 + 5 := by unfold lnQ; rw [ekw]; rfl
    have eL' : lnS u m n p = lnR u m n k 4 (lnQ u m p) := by rw [eL, ekw]
    have t4 : RdC B q4 m u (lnQ u m p) := by rw [eQ]; exact t43
    refine Ends.ct l4 (by decide +kernel) (by decide) (c_join142 (op := 1) l4 (by omega) hn0 hn (ext_tx T hb0 x (rw1 G4)) t4 (xrw x3 G34) hk4 (by decide)) (fun v6 q6 l6 _ _ _ ⟨g6, ww⟩ => ?_)
    refine Ends.eq (b137_213 (n := n) (by (repeat' first | assumption | refine LX.setF _ _ ?_ (by decide +kernel) | refine LX.setS ?_ rfl | refine LX.setA ?_ (by first | assumption | omega))) (by first | assumption | omega)) ?_
    rcases ww with ⟨ok, e6, r6, x6⟩ | ⟨ok, e6⟩
    · rw [e6]
      refine Ends.g (Or.inr rfl) (Ends.sm (K _ _ ⟨(rw1 G4).tr g6 (fun c j w => w), Or.inl ⟨k, 4, (ubS u m (lnQ u m p + 1) - 48).toNat, lnQ u m p + 3, ?_, rfl, r6, hk4, x6⟩⟩))
      rw [eL']
      show (if (wdS u m (lnQ u m p) [35] && (dgO (ubS u m (lnQ u m p + 1)) && wdS u m (lnQ u m p + 2) [41])) = true then _ else _) = _
      rw [if_pos ok]
    · rw [e6]
      refine Ends.g (Or.inl rfl) (Ends.sm (none_ _ _ ((rw1 G4).tr g6 (fun c j w => w)) ?_ rfl))
      rw [eL']
      show (if (wdS u m (lnQ u m p) [35] && (dgO (ubS u m (lnQ u m p + 1)) && wdS u m (lnQ u m p + 2) [41])) = true then _ else _) = _
      rw [ok]; rfl
  rw [e4, t43]
  refine Ends.b0 (fun _ => ?_) (fun z => absurd rfl z)
  refine Ends.ct l3 (by decide +kernel) (by decide) (c_word156 l3 (by omega) (kwP 5 (by decide)) v3) (fun v4 q4 l4 _ _ _ ⟨g4, ww⟩ => ?_)
  have G4 : Agr (rwC B) h q4 := G3.tr g4 (fun c j w => Or.inl w)
  have G34 : Agr (rwC B) q3 q4 := rwat g4
  refine Ends.eq (b137_220 (n := n) (by (repeat' first | assumption | refine LX.setF _ _ ?_ (by decide +kernel) | refine LX.setS ?_ rfl | refine LX.setA ?_ (by first | assumption | omega))) (by first | assumption | omega)) ?_
  rcases ww with ⟨t51, e4, t53⟩ | ⟨t51, e4, t53⟩
  · rw [e4]
    refine Ends.b0 (fun z => absurd z (by decide)) (fun _ => ?_)
    have ekw : kwI u m (p + 3) = 5 := by unfold kwI; rw [t01, t11, t21, t31, t41, t51]; rfl
    have eQ : lnQ u m p = p + 3 + 7 := by unfold lnQ; rw [ekw]; rfl
    have eL' : lnS u m n p = lnR u m n k 5 (lnQ u m p) := by rw [eL, ekw]
    have t4 : RdC B q4 m u (lnQ u m p) := by rw [eQ]; exact t53
    refine Ends.ct l4 (by decide +kernel) (by decide) (c_join142 (op := 2) l4 (by omega) hn0 hn (ext_tx T hb0 x (rw1 G4)) t4 (xrw x3 G34) hk4 (by decide)) (fun v6 q6 l6 _ _ _ ⟨g6, ww⟩ => ?_)
    refine Ends.eq (b137_229 (n := n) (by (repeat' first | assumption | refine LX.setF _ _ ?_ (by decide +kernel) | refine LX.setS ?_ rfl | refine LX.setA ?_ (by first | assumption | omega))) (by first | assumption | omega)) ?_
    rcases ww with ⟨ok, e6, r6, x6⟩ | ⟨ok, e6⟩
    · rw [e6]
      refine Ends.g (Or.inr rfl) (Ends.sm (K _ _ ⟨(rw1 G4).tr g6 (fun c j w => w), Or.inl ⟨k, 5, (ubS u m (lnQ u m p + 1) - 48).toNat, lnQ u m p + 3, ?_, rfl, r6, hk4, x6⟩⟩))
      rw [eL']
      show (if (wdS u m (lnQ u m p) [35] && (dgO (ubS u m (lnQ u m p + 1)) && wdS u m (lnQ u m p + 2) [41])) = true then _ else _) = _
      rw [if_pos ok]
    · rw [e6]
      refine Ends.g (Or.inl rfl) (Ends.sm (none_ _ _ ((rw1 G4).tr g6 (fun c j w => w)) ?_ rfl))
      rw [eL']
      show (if (wdS u m (lnQ u m p) [35] && (dgO (ubS u m (lnQ u m p + 1)) && wdS u m (lnQ u m p + 2) [41])) = true then _ else _) = _
      rw [ok]; rfl
  rw [e4, t53]
  refine Ends.b0 (fun _ => ?_) (fun z => absurd rfl z)
  refine Ends.ct l3 (by decide +kernel) (by decide) (c_word156 l3 (by omega) (kwP 6 (by decide)) v3) (fun v4 q4 l4 _ _ _ ⟨g4, ww⟩ => ?_)
  have G4 : Agr (rwC B) h q4 := G3.tr g4 (fun c j w => Or.inl w)
  have G34 : Agr (rwC B) q3 q4 := rwat g4
  refine Ends.eq (b137_236 (n := n) (by (repeat' first | assumption | refine LX.setF _ _ ?_ (by decide +kernel) | refine LX.setS ?_ rfl | refine LX.setA ?_ (by first | assumption | omega))) (by first | assumption | omega)) ?_
  rcases ww with ⟨t61, e4, t63⟩ | ⟨t61, e4, t63⟩
  · rw [e4]
    refine Ends.b0 (fun z => absurd z (by decide)) (fun _ => ?_)
    have ekw : kwI u m (p + 3) = 6 := by unfold kwI; rw [t01, t11, t21, t31, t41, t51, t61]; rfl
    have eQ : lnQ u m p = p + 3 + 5 := by unfold lnQ; rw [ekw]; rfl
    have eL' : lnS u m n p = lnR u m n k 6 (lnQ u m p) := by rw [eL, ekw]
    have t4 : RdC B q4 m u (lnQ u m p) := by rw [eQ]; exact t63
    refine Ends.ct l4 (by decide +kernel) (by decide) (num q4 3 (lnQ u m p) l4 G4 t4 (by decide)) (fun v5 q5 l5 _ _ _ ⟨g5, ww⟩ => ?_)
    have G5 : Agr (rwC B) h q5 := G4.tr g5 (fun c j w => w)
    have x5 := xrw (xrw x3 G34) g5
    have m5 := ext_tb mt hb0 x (rw1 G5)
    refine Ends.eq (b137_244 (n := n) (by (repeat' first | assumption | refine LX.setF _ _ ?_ (by decide +kernel) | refine LX.setS ?_ rfl | refine LX.setA ?_ (by first | assumption | omega))) (by first | assumption | omega)) ?_
    rcases ww with ⟨e, en, ev5, r5, b5⟩ | ⟨en, ev5⟩
    rotate_left
    · rw [ev5]
      refine Ends.b0 (fun _ => ?_) (fun z => absurd rfl z)
      refine Ends.eq (b137_268 (n := n) (by (repeat' first | assumption | refine LX.setF _ _ ?_ (by decide +kernel) | refine LX.setS ?_ rfl | refine LX.setA ?_ (by first | assumption | omega))) (by first | assumption | omega)) ?_
      refine Ends.eq (b137_269 (n := n) (by (repeat' first | assumption | refine LX.setF _ _ ?_ (by decide +kernel) | refine LX.setS ?_ rfl | refine LX.setA ?_ (by first | assumption | omega))) (by first | assumption | omega)) ?_
      exact Ends.g (Or.inl rfl) (Ends.sm (none_ _ _ (rw1 G5) (by rw [eL']; show (match nuS u m (lnQ u m p) 3 with | none => none | some e => _) = none; rw [en]) rfl))
    rw [ev5]
    refine Ends.b0 (fun z => absurd z (by decide)) (fun _ => ?_)
    have eB : lnS u m n p = if bdS n 6 (nsV u m (lnQ u m p)) = true then some (k, 6, 0, e) else none := by rw [eL']; show (match nuS u m (lnQ u m p) 3 with | none => none | some e => if bdS n 6 (nsV u m (lnQ u m p)) = true then some (k, 6, 0, e) else none) = _; rw [en]
    refine Ends.ct l5 (by decide +kernel) (by decide) (c_fields140 (many := 3) l5 (by omega) b5 (by decide)) (fun v6 q6 l6 _ _ _ ⟨e6, ww⟩ => ?_)
    subst e6
    refine Ends.eq (b137_253 (n := n) (by (repeat' first | assumption | refine LX.setF _ _ ?_ (by decide +kernel) | refine LX.setS ?_ rfl | refine LX.setA ?_ (by first | assumption | omega))) (by first | assumption | omega)) ?_
    rcases ww with ⟨e6, bd⟩ | ⟨e6, bd⟩
    rotate_left
    · rw [e6]
      refine Ends.b0 (fun _ => ?_) (fun z => absurd rfl z)
      refine Ends.eq (b137_268 (n := n) (by (repeat' first | assumption | refine LX.setF _ _ ?_ (by decide +kernel) | refine LX.setS ?_ rfl | refine LX.setA ?_ (by first | assumption | omega))) (by first | assumption | omega)) ?_
      refine Ends.eq (b137_269 (n := n) (by (repeat' first | assumption | refine LX.setF _ _ ?_ (by decide +kernel) | refine LX.setS ?_ rfl | refine LX.setA ?_ (by first | assumption | omega))) (by first | assumption | omega)) ?_
      exact Ends.g (Or.inl rfl) (Ends.sm (none_ _ _ (rw1 G5) (by rw [eB]; show (if bd200 (nsV u m (lnQ u m p)) 3 = true then _ else _) = _; rw [if_neg (fun z => bd (bd200_iff.mp z))]) rfl))
    rw [e6]
    refine Ends.b0 (fun z => absurd z (by decide)) (fun _ => ?_)
    refine Ends.ct l6 (by decide +kernel) (by decide) (c_move144 l6 (by omega) hn0 hn b5 (x5.1 k hk4).2.2.2.2.1 (x5.1 k hk4).2.1 x5.2.1 x5.2.2.2.2 x5.2.2.1 (fun z => (x5.1 k hk4).2.2.2.1 z.symm) bd) (fun v7 q7 l7 _ _ _ ⟨e7, g7, s7⟩ => ?_)
    refine Ends.eq (b137_261 (n := n) (by (repeat' first | assumption | refine LX.setF _ _ ?_ (by decide +kernel) | refine LX.setS ?_ rfl | refine LX.setA ?_ (by first | assumption | omega))) (by first | assumption | omega)) ?_
    rw [e7]
    exact Ends.sm (some_ q6 q7 _ 6 0 e _ _ (rw1 G5) x5 r5 g7 (fun c j w => by rcases w with w | w; exact hold c w; exact spare c w) (fun c j w => ⟨by rcases w with w | w <;> (have := (x5.1 k hk4).2.1; have := x5.2.2.1; omega), fun hh => by rcases w with w | w; exact Or.inr w; exact Or.inl w⟩) s7 (by rw [eB]; show (if bd200 (nsV u m (lnQ u m p)) 3 = true then _ else _) = _; rw [if_pos (bd200_iff.mpr bd)]) rfl rfl)
  rw [e4, t63]
  refine Ends.b0 (fun _ => ?_) (fun z => absurd rfl z)
  refine Ends.ct l3 (by decide +kernel) (by decide) (c_word156 l3 (by omega) (kwP 7 (by decide)) v3) (fun v4 q4 l4 _ _ _ ⟨g4, ww⟩ => ?_)
  have G4 : Agr (rwC B) h q4 := G3.tr g4 (fun c j w => Or.inl w)
  have G34 : Agr (rwC B) q3 q4 := rwat g4
  refine Ends.eq (b137_276 (n := n) (by (repeat' first | assumption | refine LX.setF _ _ ?_ (by decide +kernel) | refine LX.setS ?_ rfl | refine LX.setA ?_ (by first | assumption | omega))) (by first | assumption | omega)) ?_
  rcases ww with ⟨t71, e4, t73⟩ | ⟨t71, e4, t73⟩
  · rw [e4]
    refine Ends.b0 (fun z => absurd z (by decide)) (fun _ => ?_)
    have ekw : kwI u m (p + 3) = 7 := by unfold kwI; rw [t01, t11, t21, t31, t41, t51, t61, t71]; rfl
    have eQ : lnQ u m p = p + 3 + 4 := by unfold lnQ; rw [ekw]; rfl
    have eL' : lnS u m n p = lnR u m n k 7 (lnQ u m p) := by rw [eL, ekw]
    have t4 : RdC B q4 m u (lnQ u m p) := by rw [eQ]; exact t73
    refine Ends.ct l4 (by decide +kernel) (by decide) (num q4 1 (lnQ u m p) l4 G4 t4 (by decide)) (fun v5 q5 l5 _ _ _ ⟨g5, ww⟩ => ?_)
    have G5 : Agr (rwC B) h q5 := G4.tr g5 (fun c j w => w)
    have x5 := xrw (xrw x3 G34) g5
    have m5 := ext_tb mt hb0 x (rw1 G5)
    refine Ends.eq (b137_284 (n := n) (by (repeat' first | assumption | refine LX.setF _ _ ?_ (by decide +kernel) | refine LX.setS ?_ rfl | refine LX.setA ?_ (by first | assumption | omega))) (by first | assumption | omega)) ?_
    rcases ww with ⟨e, en, ev5, r5, b5⟩ | ⟨en, ev5⟩
    rotate_left
    · rw [ev5]
      refine Ends.b0 (fun _ => ?_) (fun z => absurd rfl z)
      refine Ends.eq (b137_314 (n := n) (by (repeat' first | assumption | refine LX.setF _ _ ?_ (by decide +kernel) | refine LX.setS ?_ rfl | refine LX.setA ?_ (by first | assumption | omega))) (by first | assumption | omega)) ?_
      refine Ends.eq (b137_315 (n := n) (by (repeat' first | assumption | refine LX.setF _ _ ?_ (by decide +kernel) | refine LX.setS ?_ rfl | refine LX.setA ?_ (by first | assumption | omega))) (by first | assumption | omega)) ?_
      exact Ends.g (Or.inl rfl) (Ends.sm (none_ _ _ (rw1 G5) (by rw [eL']; show (match nuS u m (lnQ u m p) 1 with | none => none | some e => _) = none; rw [en]) rfl))
    rw [ev5]
    refine Ends.b0 (fun z => absurd z (by decide)) (fun _ => ?_)
    have eB : lnS u m n p = if decide (0 ≤ nsV u m (lnQ u m p) 0 ∧ nsV u m (lnQ u m p) 0 ≤ 47) = true then some (k, 7, 0, e) else none := by rw [eL']; show (match nuS u m (lnQ u m p) 1 with | none => none | some e => if bdS n 7 (nsV u m (lnQ u m p)) = true then some (k, 7, 0, e) else none) = _; rw [en]; rfl
    rw [show Int.toNat (0 : Int) = 0 from rfl, b5 0 (by decide), v155_d]
    by_cases ok : decide (0 ≤ nsV u m (lnQ u m p) 0 ∧ nsV u m (lnQ u m p) 0 ≤ 47) = true
    rotate_left
    · rw [if_neg ok]
      refine Ends.b0 (fun _ => ?_) (fun z => absurd rfl z)
      refine Ends.eq (b137_314 (n := n) (by (repeat' first | assumption | refine LX.setF _ _ ?_ (by decide +kernel) | refine LX.setS ?_ rfl | refine LX.setA ?_ (by first | assumption | omega))) (by first | assumption | omega)) ?_
      refine Ends.eq (b137_315 (n := n) (by (repeat' first | assumption | refine LX.setF _ _ ?_ (by decide +kernel) | refine LX.setS ?_ rfl | refine LX.setA ?_ (by first | assumption | omega))) (by first | assumption | omega)) ?_
      exact Ends.g (Or.inl rfl) (Ends.sm (none_ _ _ (rw1 G5) (by rw [eB, if_neg ok]) rfl))
    have ok' := of_decide_eq_true ok
    rw [if_pos ok] at eB ⊢
    refine Ends.b0 (fun z => absurd z (by decide)) (fun _ => ?_)
    refine Ends.ct l5 (by decide +kernel) (by decide) (c_way154 l5 (by omega) hn0 hn m5 b5 (x5.1 k hk4).2.2.2.2.1 (x5.1 k hk4).2.1 x5.2.1 x5.2.2.2.2 x5.2.2.1 (fun z => (x5.1 k hk4).2.2.2.1 z.symm) ok') (fun v7 q7 l7 _ _ _ ⟨e7, g7, s7⟩ => ?_)
    refine Ends.eq (b137_307 (n := n) (by (repeat' first | assumption | refine LX.setF _ _ ?_ (by decide +kernel) | refine LX.setS ?_ rfl | refine LX.setA ?_ (by first | assumption | omega))) (by first | assumption | omega)) ?_
    rw [e7]
    exact Ends.sm (some_ q5 q7 _ 7 0 e _ _ (rw1 G5) x5 r5 g7 (fun c j w => by unfold tuW at w; rcases w with w | w | w | w | w | w | w; exact spare c w; exact hold c w; all_goals (unfold exH; omega)) (fun c j w => ⟨by unfold tuW at w; have := (x5.1 k hk4).2.1; have := x5.2.2.1; omega, fun hh => by unfold tuW at w; rcases w with w | w | w | w | w | w | w; exact Or.inl w; exact Or.inr w; all_goals omega⟩) s7 eB rfl rfl)
  rw [e4, t73]
  refine Ends.b0 (fun _ => ?_) (fun z => absurd rfl z)
  refine Ends.ct l3 (by decide +kernel) (by decide) (c_word156 l3 (by omega) (kwP 8 (by decide)) v3) (fun v4 q4 l4 _ _ _ ⟨g4, ww⟩ => ?_)
  have G4 : Agr (rwC B) h q4 := G3.tr g4 (fun c j w => Or.inl w)
  have G34 : Agr (rwC B) q3 q4 := rwat g4
  refine Ends.eq (b137_322 (n := n) (by (repeat' first | assumption | refine LX.setF _ _ ?_ (by decide +kernel) | refine LX.setS ?_ rfl | refine LX.setA ?_ (by first | assumption | omega))) (by first | assumption | omega)) ?_
  rcases ww with ⟨t81, e4, t83⟩ | ⟨t81, e4, t83⟩
  · rw [e4]
    refine Ends.b0 (fun z => absurd z (by decide)) (fun _ => ?_)
    have ekw : kwI u m (p + 3) = 8 := by unfold kwI; rw [t01, t11, t21, t31, t41, t51, t61, t71, t81]; rfl
    have eQ : lnQ u m p = p + 3 + 5 := by unfold lnQ; rw [ekw]; rfl
    have eL' : lnS u m n p = lnR u m n k 8 (lnQ u m p) := by rw [eL, ekw]
    have t4 : RdC B q4 m u (lnQ u m p) := by rw [eQ]; exact t83
    refine Ends.ct l4 (by decide +kernel) (by decide) (num q4 1 (lnQ u m p) l4 G4 t4 (by decide)) (fun v5 q5 l5 _ _ _ ⟨g5, ww⟩ => ?_)
    have G5 : Agr (rwC B) h q5 := G4.tr g5 (fun c j w => w)
    have x5 := xrw (xrw x3 G34) g5
    have m5 := ext_tb mt hb0 x (rw1 G5)
    refine Ends.eq (b137_330 (n := n) (by (repeat' first | assumption | refine LX.setF _ _ ?_ (by decide +kernel) | refine LX.setS ?_ rfl | refine LX.setA ?_ (by first | assumption | omega))) (by first | assumption | omega)) ?_
    rcases ww with ⟨e, en, ev5, r5, b5⟩ | ⟨en, ev5⟩
    rotate_left
    · rw [ev5]
      refine Ends.b0 (fun _ => ?_) (fun z => absurd rfl z)
      refine Ends.eq (b137_348 (n := n) (by (repeat' first | assumption | refine LX.setF _ _ ?_ (by decide +kernel) | refine LX.setS ?_ rfl | refine LX.setA ?_ (by first | assumption | omega))) (by first | assumption | omega)) ?_
      exact (Ends.sm (none_ _ _ (rw1 G5) (by rw [eL']; show (match nuS u m (lnQ u m p) 1 with | none => none | some e => _) = none; rw [en]) rfl))
    rw [ev5]
    refine Ends.b0 (fun z => absurd z (by decide)) (fun _ => ?_)
    have eB : lnS u m n p = if decide (1 ≤ nsV u m (lnQ u m p) 0 ∧ nsV u m (lnQ u m p) 0 ≤ 8) = true then some (k, 8, 0, e) else none := by rw [eL']; show (match nuS u m (lnQ u m p) 1 with | none => none | some e => if bdS n 8 (nsV u m (lnQ u m p)) = true then some (k, 8, 0, e) else none) = _; rw [en]; rfl
    rw [show Int.toNat (0 : Int) = 0 from rfl, b5 0 (by decide), v155_d]
    by_cases ok : decide (1 ≤ nsV u m (lnQ u m p) 0 ∧ nsV u m (lnQ u m p) 0 ≤ 8) = true
    rotate_left
    · rw [if_neg ok]
      refine Ends.b1 (fun z => absurd rfl z) (fun _ => ?_)
      refine Ends.eq (b137_348 (n := n) (by (repeat' first | assumption | refine LX.setF _ _ ?_ (by decide +kernel) | refine LX.setS ?_ rfl | refine LX.setA ?_ (by first | assumption | omega))) (by first | assumption | omega)) ?_
      exact (Ends.sm (none_ _ _ (rw1 G5) (by rw [eB, if_neg ok]) rfl))
    have ok' := of_decide_eq_true ok
    rw [if_pos ok] at eB ⊢
    refine Ends.b1 (fun _ => ?_) (fun z => absurd z (by decide))
    obtain ⟨w0, ew⟩ : ∃ t : Nat, nsV u m (lnQ u m p) 0 = (t : Int) := ⟨(nsV u m (lnQ u m p) 0).toNat, by omega⟩
    rw [ew]
    refine Ends.cv l5 (by decide +kernel) (c_growK (a := hc k) (b := w0) l5 (by omega) hn4 hn (x5.1 k hk4).2.2.2.2.1 (by have := (x5.1 k hk4).2.1; omega) (by omega)) (fun q7 l7 _ _ _ ⟨f7, s7⟩ => ?_)
    refine Ends.eq (b137_364 (n := n) (by (repeat' first | assumption | refine LX.setF _ _ ?_ (by decide +kernel) | refine LX.setS ?_ rfl | refine LX.setA ?_ (by first | assumption | omega))) (by first | assumption | omega)) ?_
    refine Ends.sm (some_ q5 q7 _ 8 0 e _ _ (rw1 G5) x5 r5 f7.agr (fun c j w => by rcases w with w | w; exact hold c w; exact Or.inr (Or.inr (Or.inr (Or.inl w)))) (fun c j w => ⟨by have := (x5.1 k hk4).2.1; omega, fun hh => by rcases w with w | w; exact Or.inr w; omega⟩) s7 eB ?_ rfl)
    show grk n (S k) (nsV u m (lnQ u m p) 0).toNat = _
    rw [ew]; rfl
  rw [e4, t83]
  refine Ends.b0 (fun _ => ?_) (fun z => absurd rfl z)
  refine Ends.ct l3 (by decide +kernel) (by decide) (c_word156 l3 (by omega) (kwP 9 (by decide)) v3) (fun v4 q4 l4 _ _ _ ⟨g4, ww⟩ => ?_)
  have G4 : Agr (rwC B) h q4 := G3.tr g4 (fun c j w => Or.inl w)
  have G34 : Agr (rwC B) q3 q4 := rwat g4
  refine Ends.eq (b137_372 (n := n) (by (repeat' first | assumption | refine LX.setF _ _ ?_ (by decide +kernel) | refine LX.setS ?_ rfl | refine LX.setA ?_ (by first | assumption | omega))) (by first | assumption | omega)) ?_
  rcases ww with ⟨t91, e4, t93⟩ | ⟨t91, e4, t93⟩
  · rw [e4]
    refine Ends.b0 (fun z => absurd z (by decide)) (fun _ => ?_)
    have ekw : kwI u m (p + 3) = 9 := by unfold kwI; rw [t01, t11, t21, t31, t41, t51, t61, t71, t81, t91]; rfl
    have eQ : lnQ u m p = p + 3 + 7 := by unfold lnQ; rw [ekw]; rfl
    have eL' : lnS u m n p = lnR u m n k 9 (lnQ u m p) := by rw [eL, ekw]
    have t4 : RdC B q4 m u (lnQ u m p) := by rw [eQ]; exact t93
    refine Ends.ct l4 (by decide +kernel) (by decide) (num q4 1 (lnQ u m p) l4 G4 t4 (by decide)) (fun v5 q5 l5 _ _ _ ⟨g5, ww⟩ => ?_)
    have G5 : Agr (rwC B) h q5 := G4.tr g5 (fun c j w => w)
    have x5 := xrw (xrw x3 G34) g5
    have m5 := ext_tb mt hb0 x (rw1 G5)
    refine Ends.eq (b137_380 (n := n) (by (repeat' first | assumption | refine LX.setF _ _ ?_ (by decide +kernel) | refine LX.setS ?_ rfl | refine LX.setA ?_ (by first | assumption | omega))) (by first | assumption | omega)) ?_
    rcases ww with ⟨e, en, ev5, r5, b5⟩ | ⟨en, ev5⟩
    rotate_left
    · rw [ev5]
      refine Ends.b0 (fun _ => ?_) (fun z => absurd rfl z)
      refine Ends.eq (b137_398 (n := n) (by (repeat' first | assumption | refine LX.setF _ _ ?_ (by decide +kernel) | refine LX.setS ?_ rfl | refine LX.setA ?_ (by first | assumption | omega))) (by first | assumption | omega)) ?_
      exact (Ends.sm (none_ _ _ (rw1 G5) (by rw [eL']; show (match nuS u m (lnQ u m p) 1 with | none => none | some e => _) = none; rw [en]) rfl))
    rw [ev5]
    refine Ends.b0 (fun z => absurd z (by decide)) (fun _ => ?_)
    have eB : lnS u m n p = if decide (1 ≤ nsV u m (lnQ u m p) 0 ∧ nsV u m (lnQ u m p) 0 ≤ 8) = true then some (k, 9, 0, e) else none := by rw [eL']; show (match nuS u m (lnQ u m p) 1 with | none => none | some e => if bdS n 9 (nsV u m (lnQ u m p)) = true then some (k, 9, 0, e) else none) = _; rw [en]; rfl
    rw [show Int.toNat (0 : Int) = 0 from rfl, b5 0 (by decide), v155_d]
    by_cases ok : decide (1 ≤ nsV u m (lnQ u m p) 0 ∧ nsV u m (lnQ u m p) 0 ≤ 8) = true
    rotate_left
    · rw [if_neg ok]
      refine Ends.b1 (fun z => absurd rfl z) (fun _ => ?_)
      refine Ends.eq (b137_398 (n := n) (by (repeat' first | assumption | refine LX.setF _ _ ?_ (by decide +kernel) | refine LX.setS ?_ rfl | refine LX.setA ?_ (by first | assumption | omega))) (by first | assumption | omega)) ?_
      exact (Ends.sm (none_ _ _ (rw1 G5) (by rw [eB, if_neg ok]) rfl))
    have ok' := of_decide_eq_true ok
    rw [if_pos ok] at eB ⊢
    refine Ends.b1 (fun _ => ?_) (fun z => absurd z (by decide))
    obtain ⟨w0, ew⟩ : ∃ t : Nat, nsV u m (lnQ u m p) 0 = (t : Int) := ⟨(nsV u m (lnQ u m p) 0).toNat, by omega⟩
    rw [ew]
    refine Ends.cv l5 (by decide +kernel) (c_shrinkK (a := hc k) (b := w0) l5 (by omega) hn4 hn (x5.1 k hk4).2.2.2.2.1 (by have := (x5.1 k hk4).2.1; omega) (by omega)) (fun q7 l7 _ _ _ ⟨f7, s7⟩ => ?_)
    refine Ends.eq (b137_414 (n := n) (by (repeat' first | assumption | refine LX.setF _ _ ?_ (by decide +kernel) | refine LX.setS ?_ rfl | refine LX.setA ?_ (by first | assumption | omega))) (by first | assumption | omega)) ?_
    refine Ends.sm (some_ q5 q7 _ 9 0 e _ _ (rw1 G5) x5 r5 f7.agr (fun c j w => by rcases w with w | w; exact hold c w; exact Or.inr (Or.inr (Or.inr (Or.inl w)))) (fun c j w => ⟨by have := (x5.1 k hk4).2.1; omega, fun hh => by rcases w with w | w; exact Or.inr w; omega⟩) s7 eB ?_ rfl)
    show shK n (nsV u m (lnQ u m p) 0).toNat (S k) = _
    rw [ew]; rfl
  rw [e4, t93]
  refine Ends.b0 (fun _ => ?_) (fun z => absurd rfl z)
  have ekw : kwI u m (p + 3) = 10 := by unfold kwI; rw [t01, t11, t21, t31, t41, t51, t61, t71, t81, t91]; rfl
  refine Ends.eq (b137_398 (n := n) (by (repeat' first | assumption | refine LX.setF _ _ ?_ (by decide +kernel) | refine LX.setS ?_ rfl | refine LX.setA ?_ (by first | assumption | omega))) (by first | assumption | omega)) ?_
  exact Ends.sm (none_ _ _ (rw1 G3) (by rw [eL, ekw]; rfl) rfl)
end DLINE
