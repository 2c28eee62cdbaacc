/-! L3: the model does a line -/
section MLINE
variable {gv : Nat → Int} {B n d m p : Nat} {h : AH} {u : Nat → Int} {S : Nat → Nat → Bool}
theorem c_call562 (l : LX B n h) (hd : 24 ≤ d) (hn4 : 4 ≤ n) (hn : n ≤ 52) (mt : TbM B h) (T : TxR gv B h) (r : RdM B h m u p) (hu : ∀ k, 0 ≤ u k ∧ u k < 256) (x : MlS B n h S) :
    Vt 0 (cll PP (ev PP (gsF gv) B) d 562 [(2, rf (B + 149))] h) (fun v h' => LnM B n h m u p S v h') := by
  have hb0 := l.2.2
  have hn0 : 0 < n := by omega
  refine Vt.inq (D := 23) hd (Nat.le_of_ble_eq_true rfl) rfl (fun d hd P K => ?_)
  have rw1 : ∀ {q1 q2 : AH}, Agr (rwM B) q1 q2 → Agr (mlnW B n) q1 q2 := fun g => g.sub (fun c k w => by rcases w with w | w; exact Or.inl ⟨w.1, Or.inl w.2⟩; exact Or.inr (Or.inl w))
  have rwat : ∀ {q1 q2 : AH}, Agr (atM B) q1 q2 → Agr (rwM B) q1 q2 := fun g => g.sub (fun c k w => Or.inl w)
  have txk : ∀ {q : AH}, Agr (rwM B) h q → TxR gv B q := fun g => T.ext g.ext hb0 (fun c k hc w => by unfold rwM at w; omega)
  have mk : ∀ {q : AH}, Agr (rwM B) h q → TbM B q := fun g => mt.agr g (fun c k a1 a2 a3 w => by unfold rwM at w; omega)
  have xk : ∀ {q : AH}, Agr (rwM B) h q → MlS B n q S := fun g => x.agr g (fun j w => by unfold rwM at w; omega) (fun i j w => by unfold rwM at w; omega)
  have none_ : ∀ (q : AH), Agr (rwM B) h q → (lnS u m n p = none ∨ ∃ k kd o e, lnS u m n p = some (k, kd, o, e) ∧ enS u m e = none) → P ((0, (0, 0)), q) := fun q g e => K _ _ ⟨rw1 g, Or.inr ⟨e, rfl⟩⟩
  refine Ends.eq (b562_0 (n := n) (by (repeat' first | assumption | refine LX.setF _ _ ?_ (by decide +kernel) | refine LX.setS ?_ rfl | refine LX.setA ?_ (by first | assumption | omega))) (by first | assumption | omega)) ?_
  refine Ends.ct l (by decide +kernel) (by decide) (c_takeSolid847 l (by omega) T r hu (fun k hk => (x k hk).1)) (fun v q1 l1 _ _ _ ⟨g1, w⟩ => ?_)
  have bad19 : ∀ (q : AH) (x1 : Int) (u2 : AV), Agr (rwM B) h q → LX B n q → lnS u m n p = none → Ends (ev PP (gsF gv) B d 562 19 [(2, rf (B + 149)), (0, x1), u2] [] q) P := fun q x1 u2 gq lq w => by
    refine Ends.eq (b562_19 (n := n) (by (repeat' first | assumption | refine LX.setF _ _ ?_ (by decide +kernel) | refine LX.setS ?_ rfl | refine LX.setA ?_ (by first | assumption | omega))) (by first | assumption | omega)) ?_
    exact Ends.sm (none_ q gq (Or.inl w))
  refine Ends.eq (b562_4 (n := n) (by (repeat' first | assumption | refine LX.setF _ _ ?_ (by decide +kernel) | refine LX.setS ?_ rfl | refine LX.setA ?_ (by first | assumption | omega))) (by first | assumption | omega)) ?_
  rcases w with ⟨w1, w2, w3⟩ | ⟨w1, w2⟩
  rotate_left
  · rw [w2]
    exact Ends.b2 (fun _ => bad19 q1 _ _ (rwat g1) l1 (by unfold lnS; rw [← Bool.and_assoc, w1, Bool.false_and]; rfl)) (fun z => absurd z (by decide))
  rw [w2]
  have dg : dgO (ubS u m (p + 1)) = true := by rw [Bool.and_eq_true] at w1; exact w1.2
  have dc := dgO_c dg
  obtain ⟨k, ek2⟩ : ∃ k : Nat, (ubS u m (p + 1) - 48).toNat = k := ⟨_, rfl⟩
  have hk4 : k < 4 := by omega
  rw [ek2]
  have rk := ldr hk4
  refine Ends.b2 (fun z => by omega) (fun _ => ?_)
  refine Ends.ct l1 (by decide +kernel) (by decide) (c_word843 l1 (by omega) (txk (rwat g1)).2.1 w3) (fun v q3 l3 _ _ _ ⟨g3, w⟩ => ?_)
  have G3 : Agr (rwM B) h q3 := (rwat g1).tr g3 (fun c k w => Or.inl w)
  refine Ends.eq (b562_16 (n := n) (by (repeat' first | assumption | refine LX.setF _ _ ?_ (by decide +kernel) | refine LX.setS ?_ rfl | refine LX.setA ?_ (by first | assumption | omega))) (by first | assumption | omega)) ?_
  rcases w with ⟨v1, v2, v3⟩ | ⟨v1, v2, v3⟩
  rotate_left
  · rw [v2]
    exact Ends.b1 (fun z => absurd rfl z) (fun _ => bad19 q3 _ _ G3 l3 (by unfold lnS; rw [v1, Bool.and_false, Bool.and_false]; rfl))
  rw [v2]
  refine Ends.b1 (fun _ => ?_) (fun z => absurd z (by decide))
  have v3 : RdM B q3 m u (p + 3) := v3
  have eL : lnS u m n p = lnR u m n k (kwI u m (p + 3)) (lnQ u m p) := by
    unfold lnS
    rw [← Bool.and_assoc, w1, v1, ek2]; rfl
  have kwP : ∀ kd, kd < 10 → TxS gv B q3 (gv (kd + 2)) (kwT kd) := fun kd hk => (txk G3).2.2.1 kd hk
  -- numbers, and the line's end
  have num : ∀ (q : AH) (many : Nat) (q0 : Nat), LX B n q → Agr (rwM B) h q → RdM B q m u q0 → many ≤ 6 → Vt 0 (cll PP (ev PP (gsF gv) B) d 845 [(2, rf (B + 149)), (0, (many : Int))] q) (fun v h' => Agr (rwM B) q h' ∧ ((∃ e, nuS u m q0 many = some e ∧ v = 1 ∧ RdM B h' m u e ∧ NbM B h' many (nsV u m q0)) ∨ (nuS u m q0 many = none ∧ v = 0))) := fun q many q0 lq gq rq h6 =>
    c_nums845 lq (by omega) (txk gq).2.2.2.2.2.1 (txk gq).2.2.2.2.2.2.1 rq h6
  have endl : ∀ (q : AH) (e : Nat), LX B n q → Agr (rwM B) h q → RdM B q m u e → Vt 0 (cll PP (ev PP (gsF gv) B) d 609 [(2, rf (B + 149))] q) (fun v h' => Agr (atM B) q h' ∧ ((∃ q', enS u m e = some q' ∧ v = 1 ∧ RdM B h' m u q') ∨ (enS u m e = none ∧ v = 0))) := fun q e lq gq rq =>
    c_end609 lq (by omega) (txk gq).2.2.2.1 rq
  have some_ : ∀ (q q4 : AH) (kd o e q' : Nat) (W : Nat → Nat → Prop) (TT : Nat → Bool), Agr (rwM B) h q → RdM B q m u q' → Agr W q q4 → (∀ c j, W c j → mlnW B n c j) → (∀ c j, W c j → c ≠ B + 150 ∧ c ≠ B + 233 ∧ ¬ (c = B + 149 ∧ (j = 3 ∨ j = 4))) → (∀ i j, i < 19 → i ≠ ld k → (i ≤ 12 ∨ 17 ≤ i) → j < wN n → ¬ W (B + 236) (wN n * i + j)) → MB B n q4 (ld k) TT → lnS u m n p = some (k, kd, o, e) → enS u m e = some q' → apS n kd (nsV u m (lnQ u m p)) o S k = TT → P ((0, (0, 1)), q4) := fun q q4 kd o e q' W TT gq rq g hW hW2 hW3 s eS eE eA => by
    refine K _ _ ⟨(rw1 gq).tr g hW, Or.inl ⟨k, kd, o, e, q', eS, eE, rfl, rq.agr g (fun w => (hW2 _ _ w).2.2 ⟨rfl, Or.inl rfl⟩) (fun w => (hW2 _ _ w).2.2 ⟨rfl, Or.inr rfl⟩) (fun k' w => (hW2 _ _ w).1 rfl), hk4, ?_⟩⟩
    rw [eA]
    exact (xk gq).put hk4 g (fun j w => (hW2 _ _ w).2.1 rfl) hW3 s
  refine Ends.ct l3 (by decide +kernel) (by decide) (c_word843 l3 (by omega) (kwP 0 (by decide)) v3) (fun v4 q4 l4 _ _ _ ⟨g4, ww⟩ => ?_)
  have G4 : Agr (rwM B) h q4 := G3.tr g4 (fun c j w => Or.inl w)
  refine Ends.eq (b562_28 (n := n) (by (repeat' first | assumption | refine LX.setF _ _ ?_ (by decide +kernel) | refine LX.setS ?_ rfl | refine LX.setA ?_ (by first | assumption | omega))) (by first | assumption | omega)) ?_
  rcases ww with ⟨t01, e4, t03⟩ | ⟨t01, e4, t03⟩
  · rw [e4]
    refine Ends.b0 (fun z => absurd z (by decide)) (fun _ => ?_)
    have ekw : kwI u m (p + 3) = 0 := by unfold kwI; rw [t01]; rfl
    have eQ : lnQ u m p = p + 3 + 4 := by unfold lnQ; rw [ekw]; rfl
    have eL' : lnS u m n p = lnR u m n k 0 (lnQ u m p) := by rw [eL, ekw]
    have t4 : RdM B q4 m u (lnQ u m p) := by rw [eQ]; exact t03
    have bad : ∀ (q : AH) (x1 : Int) (u2 : AV), Agr (rwM B) h q → LX B n q → (lnS u m n p = none ∨ ∃ k kd o e, lnS u m n p = some (k, kd, o, e) ∧ enS u m e = none) → Ends (ev PP (gsF gv) B d 562 122 [(2, rf (B + 149)), (0, x1), u2] [] q) P := fun q x1 u2 gq lq w => by
      refine Ends.eq (b562_122 (n := n) (by (repeat' first | assumption | refine LX.setF _ _ ?_ (by decide +kernel) | refine LX.setS ?_ rfl | refine LX.setA ?_ (by first | assumption | omega))) (by first | assumption | omega)) ?_
      exact Ends.sm (none_ q gq w)
    refine Ends.ct l4 (by decide +kernel) (by decide) (num q4 5 (lnQ u m p) l4 G4 t4 (by decide)) (fun v5 q5 l5 _ _ _ ⟨g5, ww⟩ => ?_)
    have G5 : Agr (rwM B) h q5 := G4.tr g5 (fun c j w => w)
    refine Ends.eq (b562_36 (n := n) (by (repeat' first | assumption | refine LX.setF _ _ ?_ (by decide +kernel) | refine LX.setS ?_ rfl | refine LX.setA ?_ (by first | assumption | omega))) (by first | assumption | omega)) ?_
    rcases ww with ⟨e, en, ev5, r5, b5⟩ | ⟨en, ev5⟩
    rotate_left
    · rw [ev5]
      exact Ends.b0 (fun _ => bad q5 _ _ G5 l5 (Or.inl (by rw [eL']; show (match nuS u m (lnQ u m p) 5 with | none => none | some e => _) = none; rw [en]))) (fun z => absurd rfl z)
    rw [ev5]
    have eB : lnS u m n p = if bdS n 0 (nsV u m (lnQ u m p)) = true then some (k, 0, 0, e) else none := by rw [eL']; show (match nuS u m (lnQ u m p) 5 with | none => none | some e => if bdS n 0 (nsV u m (lnQ u m p)) = true then some (k, 0, 0, e) else none) = _; rw [en]
    refine Ends.b0 (fun z => absurd z (by decide)) (fun _ => ?_)
    refine Ends.ct l5 (by decide +kernel) (by decide) (endl q5 e l5 G5 r5) (fun v6 q6 l6 _ _ _ ⟨g6, ww⟩ => ?_)
    have G6 : Agr (rwM B) h q6 := G5.tr g6 (fun c j w => Or.inl w)
    have b6 := b5.agr g6 (fun k w => by unfold atM at w; omega)
    refine Ends.eq (b562_43 (n := n) (by (repeat' first | assumption | refine LX.setF _ _ ?_ (by decide +kernel) | refine LX.setS ?_ rfl | refine LX.setA ?_ (by first | assumption | omega))) (by first | assumption | omega)) ?_
    rcases ww with ⟨q', en', ev6, r6⟩ | ⟨en', ev6⟩
    rotate_left
    · rw [ev6]
      refine Ends.b0 (fun _ => bad q6 _ _ G6 l6 ?_) (fun z => absurd rfl z)
      by_cases c : bdS n 0 (nsV u m (lnQ u m p)) = true
      · exact Or.inr ⟨_, _, _, _, by rw [eB, if_pos c], en'⟩
      · exact Or.inl (by rw [eB, if_neg c])
    rw [ev6]
    refine Ends.b0 (fun z => absurd z (by decide)) (fun _ => ?_)
    have x6 := xk G6
    have m6 := mk G6
    have wrong : bdS n 0 (nsV u m (lnQ u m p)) = false → (lnS u m n p = none ∨ ∃ k kd o e, lnS u m n p = some (k, kd, o, e) ∧ enS u m e = none) := fun w => Or.inl (by rw [eB, w]; rfl)
    rw [v681_d, v681_d, v681_d, v681_d, v681_d, show Int.toNat (0 : Int) = 0 from rfl, show Int.toNat (1 : Int) = 1 from rfl, show Int.toNat (2 : Int) = 2 from rfl, show Int.toNat (3 : Int) = 3 from rfl, show Int.toNat (4 : Int) = 4 from rfl, b6 0 (by decide), b6 1 (by decide), b6 2 (by decide), b6 3 (by decide), b6 4 (by decide), sub32 (x := (n : Int)) (y := 1) (by omega) (by omega), sub32 (x := (n : Int)) (by have := nsV_b (u := u) (m := m) (p := lnQ u m p) (k := 3); omega) (by have := nsV_b (u := u) (m := m) (p := lnQ u m p) (k := 3); omega)]
    have wr : ∀ P' : Prop, (runOK n (nsV u m (lnQ u m p)) = true → P') → ¬ P' → (lnS u m n p = none ∨ ∃ k kd o e, lnS u m n p = some (k, kd, o, e) ∧ enS u m e = none) := fun P' hP w => wrong (Bool.eq_false_iff.mpr (fun z => w (hP z)))
    refine Ends.g (by unfold q681; decide) ?_
    by_cases c0 : 0 ≤ nsV u m (lnQ u m p) 0 ∧ nsV u m (lnQ u m p) 0 ≤ 23
    rotate_left
    · rw [decide_eq_false c0]
      exact Ends.b0 (fun _ => bad q6 _ _ G6 l6 (wr _ (fun z => (of_decide_eq_true z).1) c0)) (fun z => absurd rfl z)
    rw [decide_eq_true c0]
    refine Ends.b0 (fun z => absurd z (by decide)) (fun _ => Ends.g (by unfold q681; decide) ?_)
    by_cases c1 : 0 ≤ nsV u m (lnQ u m p) 1 ∧ nsV u m (lnQ u m p) 1 ≤ (n : Int) - 1
    rotate_left
    · rw [decide_eq_false c1]
      exact Ends.b0 (fun _ => bad q6 _ _ G6 l6 (wr _ (fun z => (of_decide_eq_true z).2.1) c1)) (fun z => absurd rfl z)
    rw [decide_eq_true c1]
    refine Ends.b0 (fun z => absurd z (by decide)) (fun _ => Ends.g (by unfold q681; decide) ?_)
    by_cases c2 : 0 ≤ nsV u m (lnQ u m p) 2 ∧ nsV u m (lnQ u m p) 2 ≤ (n : Int) - 1
    rotate_left
    · rw [decide_eq_false c2]
      exact Ends.b0 (fun _ => bad q6 _ _ G6 l6 (wr _ (fun z => (of_decide_eq_true z).2.2.1) c2)) (fun z => absurd rfl z)
    rw [decide_eq_true c2]
    refine Ends.b0 (fun z => absurd z (by decide)) (fun _ => Ends.g (by unfold q681; decide) ?_)
    by_cases c3 : 0 ≤ nsV u m (lnQ u m p) 3 ∧ nsV u m (lnQ u m p) 3 ≤ (n : Int) - 1
    rotate_left
    · rw [decide_eq_false c3]
      exact Ends.b0 (fun _ => bad q6 _ _ G6 l6 (wr _ (fun z => (of_decide_eq_true z).2.2.2.1) c3)) (fun z => absurd rfl z)
    rw [decide_eq_true c3]
    refine Ends.b0 (fun z => absurd z (by decide)) (fun _ => Ends.g (by unfold q681; decide) ?_)
    by_cases c4 : 1 ≤ nsV u m (lnQ u m p) 4 ∧ nsV u m (lnQ u m p) 4 ≤ (n : Int) - nsV u m (lnQ u m p) 3
    rotate_left
    · rw [decide_eq_false c4]
      exact Ends.b1 (fun z => absurd rfl z) (fun _ => bad q6 _ _ G6 l6 (wr _ (fun z => (of_decide_eq_true z).2.2.2.2) c4))
    rw [decide_eq_true c4]
    have ok : bdS n 0 (nsV u m (lnQ u m p)) = true := decide_eq_true (⟨c0, c1, c2, c3, c4⟩ : _ ∧ _)
    refine Ends.b1 (fun _ => ?_) (fun z => absurd z (by decide))
    exact run_go l6 (by omega) hn0 hn b6 ok rk.2.1 (x6 k hk4).2 (fun q7 g7 m7 => some_ q6 q7 0 0 e q' _ _ G6 r6 g7 (fun c j w => wto_ml rk.1 w) (fun c j w => by have := w.1; omega) (fun i j h1 h2 h3 h4 w => wto_row h4 (Nat.le_refl _) h2 w) m7 (by rw [eB, ok]; rfl) en' rfl)
  rw [e4, t03]
  refine Ends.b0 (fun _ => ?_) (fun z => absurd rfl z)
  refine Ends.ct l3 (by decide +kernel) (by decide) (c_word843 l3 (by omega) (kwP 1 (by decide)) v3) (fun v4 q4 l4 _ _ _ ⟨g4, ww⟩ => ?_)
  have G4 : Agr (rwM B) h q4 := G3.tr g4 (fun c j w => Or.inl w)
  refine Ends.eq (b562_187 (n := n) (by (repeat' first | assumption | refine LX.setF _ _ ?_ (by decide +kernel) | refine LX.setS ?_ rfl | refine LX.setA ?_ (by first | assumption | omega))) (by first | assumption | omega)) ?_
  rcases ww with ⟨t11, e4, t13⟩ | ⟨t11, e4, t13⟩
  · rw [e4]
    refine Ends.b0 (fun z => absurd z (by decide)) (fun _ => ?_)
    have ekw : kwI u m (p + 3) = 1 := by unfold kwI; rw [t01, t11]; rfl
    have eQ : lnQ u m p = p + 3 + 6 := by unfold lnQ; rw [ekw]; rfl
    have eL' : lnS u m n p = lnR u m n k 1 (lnQ u m p) := by rw [eL, ekw]
    have t4 : RdM B q4 m u (lnQ u m p) := by rw [eQ]; exact t13
    have bad : ∀ (q : AH) (x1 : Int) (u2 : AV), Agr (rwM B) h q → LX B n q → (lnS u m n p = none ∨ ∃ k kd o e, lnS u m n p = some (k, kd, o, e) ∧ enS u m e = none) → Ends (ev PP (gsF gv) B d 562 215 [(2, rf (B + 149)), (0, x1), u2] [] q) P := fun q x1 u2 gq lq w => by
      refine Ends.eq (b562_215 (n := n) (by (repeat' first | assumption | refine LX.setF _ _ ?_ (by decide +kernel) | refine LX.setS ?_ rfl | refine LX.setA ?_ (by first | assumption | omega))) (by first | assumption | omega)) ?_
      exact Ends.sm (none_ q gq w)
    refine Ends.ct l4 (by decide +kernel) (by decide) (num q4 6 (lnQ u m p) l4 G4 t4 (by decide)) (fun v5 q5 l5 _ _ _ ⟨g5, ww⟩ => ?_)
    have G5 : Agr (rwM B) h q5 := G4.tr g5 (fun c j w => w)
    refine Ends.eq (b562_196 (n := n) (by (repeat' first | assumption | refine LX.setF _ _ ?_ (by decide +kernel) | refine LX.setS ?_ rfl | refine LX.setA ?_ (by first | assumption | omega))) (by first | assumption | omega)) ?_
    rcases ww with ⟨e, en, ev5, r5, b5⟩ | ⟨en, ev5⟩
    rotate_left
    · rw [ev5]
      exact Ends.b0 (fun _ => bad q5 _ _ G5 l5 (Or.inl (by rw [eL']; show (match nuS u m (lnQ u m p) 6 with | none => none | some e => _) = none; rw [en]))) (fun z => absurd rfl z)
    rw [ev5]
    have eB : lnS u m n p = if bdS n 1 (nsV u m (lnQ u m p)) = true then some (k, 1, 0, e) else none := by rw [eL']; show (match nuS u m (lnQ u m p) 6 with | none => none | some e => if bdS n 1 (nsV u m (lnQ u m p)) = true then some (k, 1, 0, e) else none) = _; rw [en]
    refine Ends.b0 (fun z => absurd z (by decide)) (fun _ => ?_)
    refine Ends.ct l5 (by decide +kernel) (by decide) (endl q5 e l5 G5 r5) (fun v6 q6 l6 _ _ _ ⟨g6, ww⟩ => ?_)
    have G6 : Agr (rwM B) h q6 := G5.tr g6 (fun c j w => Or.inl w)
    have b6 := b5.agr g6 (fun k w => by unfold atM at w; omega)
    refine Ends.eq (b562_203 (n := n) (by (repeat' first | assumption | refine LX.setF _ _ ?_ (by decide +kernel) | refine LX.setS ?_ rfl | refine LX.setA ?_ (by first | assumption | omega))) (by first | assumption | omega)) ?_
    rcases ww with ⟨q', en', ev6, r6⟩ | ⟨en', ev6⟩
    rotate_left
    · rw [ev6]
      refine Ends.b0 (fun _ => bad q6 _ _ G6 l6 ?_) (fun z => absurd rfl z)
      by_cases c : bdS n 1 (nsV u m (lnQ u m p)) = true
      · exact Or.inr ⟨_, _, _, _, by rw [eB, if_pos c], en'⟩
      · exact Or.inl (by rw [eB, if_neg c])
    rw [ev6]
    refine Ends.b0 (fun z => absurd z (by decide)) (fun _ => ?_)
    have x6 := xk G6
    have m6 := mk G6
    have wrong : bdS n 1 (nsV u m (lnQ u m p)) = false → (lnS u m n p = none ∨ ∃ k kd o e, lnS u m n p = some (k, kd, o, e) ∧ enS u m e = none) := fun w => Or.inl (by rw [eB, w]; rfl)
    refine Ends.ct l6 (by decide +kernel) (by decide) (c_areBound547 (many := 6) l6 (by omega) b6 (by decide)) (fun v7 q7 l7 _ _ _ ⟨e7, ev7⟩ => ?_)
    subst e7
    rw [ev7]
    refine Ends.eq (b562_212 (n := n) (by (repeat' first | assumption | refine LX.setF _ _ ?_ (by decide +kernel) | refine LX.setS ?_ rfl | refine LX.setA ?_ (by first | assumption | omega))) (by first | assumption | omega)) ?_
    cases ok : bd200 (nsV u m (lnQ u m p)) 6
    · exact Ends.b1 (fun z => absurd rfl z) (fun _ => bad q7 _ _ G6 l7 (wrong ok))
    refine Ends.b1 (fun _ => ?_) (fun z => absurd z (by decide))
    exact block_go l7 (by omega) hn m6 b6 (bd200_iff.mp ok) rk.2.1 (x6 k hk4).2 (fun q8 g8_ m8 => some_ q7 q8 1 0 e q' _ _ G6 r6 g8_ (fun c j w => by rcases w with w | w; exact Or.inr (Or.inr (Or.inl w)); exact wto_ml rk.1 w) (fun c j w => by rcases w with w | w; omega; (have := w.1; omega)) (fun i j h1 h2 h3 h4 w => by rcases w with w | w; omega; exact wto_row h4 (Nat.le_refl _) h2 w) m8 (by rw [eB]; show (if bd200 (nsV u m (lnQ u m p)) 6 = true then _ else _) = _; rw [ok]; rfl) en' rfl)
  rw [e4, t13]
  refine Ends.b0 (fun _ => ?_) (fun z => absurd rfl z)
  refine Ends.ct l3 (by decide +kernel) (by decide) (c_word843 l3 (by omega) (kwP 2 (by decide)) v3) (fun v4 q4 l4 _ _ _ ⟨g4, ww⟩ => ?_)
  have G4 : Agr (rwM B) h q4 := G3.tr g4 (fun c j w => Or.inl w)
  refine Ends.eq (b562_283 (n := n) (by (repeat' first | assumption | refine LX.setF _ _ ?_ (by decide +kernel) | refine LX.setS ?_ rfl | refine LX.setA ?_ (by first | assumption | omega))) (by first | assumption | omega)) ?_
  rcases ww with ⟨t21, e4, t23⟩ | ⟨t21, e4, t23⟩
  · rw [e4]
    refine Ends.b0 (fun z => absurd z (by decide)) (fun _ => ?_)
    have ekw : kwI u m (p + 3) = 2 := by unfold kwI; rw [t01, t11, t21]; rfl
    have eQ : lnQ u m p = p + 3 + 5 := by unfold lnQ; rw [ekw]; rfl
    have eL' : lnS u m n p = lnR u m n k 2 (lnQ u m p) := by rw [eL, ekw]
    have t4 : RdM B q4 m u (lnQ u m p) := by rw [eQ]; exact t23
    have bad : ∀ (q : AH) (x1 : Int) (u2 : AV), Agr (rwM B) h q → LX B n q → (lnS u m n p = none ∨ ∃ k kd o e, lnS u m n p = some (k, kd, o, e) ∧ enS u m e = none) → Ends (ev PP (gsF gv) B d 562 332 [(2, rf (B + 149)), (0, x1), u2] [] q) P := fun q x1 u2 gq lq w => by
      refine Ends.eq (b562_332 (n := n) (by (repeat' first | assumption | refine LX.setF _ _ ?_ (by decide +kernel) | refine LX.setS ?_ rfl | refine LX.setA ?_ (by first | assumption | omega))) (by first | assumption | omega)) ?_
      exact Ends.sm (none_ q gq w)
    refine Ends.ct l4 (by decide +kernel) (by decide) (num q4 6 (lnQ u m p) l4 G4 t4 (by decide)) (fun v5 q5 l5 _ _ _ ⟨g5, ww⟩ => ?_)
    have G5 : Agr (rwM B) h q5 := G4.tr g5 (fun c j w => w)
    refine Ends.eq (b562_292 (n := n) (by (repeat' first | assumption | refine LX.setF _ _ ?_ (by decide +kernel) | refine LX.setS ?_ rfl | refine LX.setA ?_ (by first | assumption | omega))) (by first | assumption | omega)) ?_
    rcases ww with ⟨e, en, ev5, r5, b5⟩ | ⟨en, ev5⟩
    rotate_left
    · rw [ev5]
      exact Ends.b0 (fun _ => bad q5 _ _ G5 l5 (Or.inl (by rw [eL']; show (match nuS u m (lnQ u m p) 6 with | none => none | some e => _) = none; rw [en]))) (fun z => absurd rfl z)
    rw [ev5]
    have eB : lnS u m n p = if bdS n 2 (nsV u m (lnQ u m p)) = true then some (k, 2, 0, e) else none := by rw [eL']; show (match nuS u m (lnQ u m p) 6 with | none => none | some e => if bdS n 2 (nsV u m (lnQ u m p)) = true then some (k, 2, 0, e) else none) = _; rw [en]
    refine Ends.b0 (fun z => absurd z (by decide)) (fun _ => ?_)
    refine Ends.ct l5 (by decide +kernel) (by decide) (endl q5 e l5 G5 r5) (fun v6 q6 l6 _ _ _ ⟨g6, ww⟩ => ?_)
    have G6 : Agr (rwM B) h q6 := G5.tr g6 (fun c j w => Or.inl w)
    have b6 := b5.agr g6 (fun k w => by unfold atM at w; omega)
    refine Ends.eq (b562_299 (n := n) (by (repeat' first | assumption | refine LX.setF _ _ ?_ (by decide +kernel) | refine LX.setS ?_ rfl | refine LX.setA ?_ (by first | assumption | omega))) (by first | assumption | omega)) ?_
    rcases ww with ⟨q', en', ev6, r6⟩ | ⟨en', ev6⟩
    rotate_left
    · rw [ev6]
      refine Ends.b0 (fun _ => bad q6 _ _ G6 l6 ?_) (fun z => absurd rfl z)
      by_cases c : bdS n 2 (nsV u m (lnQ u m p)) = true
      · exact Or.inr ⟨_, _, _, _, by rw [eB, if_pos c], en'⟩
      · exact Or.inl (by rw [eB, if_neg c])
    rw [ev6]
    refine Ends.b0 (fun z => absurd z (by decide)) (fun _ => ?_)
    have x6 := xk G6
    have m6 := mk G6
    have wrong : bdS n 2 (nsV u m (lnQ u m p)) = false → (lnS u m n p = none ∨ ∃ k kd o e, lnS u m n p = some (k, kd, o, e) ∧ enS u m e = none) := fun w => Or.inl (by rw [eB, w]; rfl)
    rw [v681_d, show Int.toNat (0 : Int) = 0 from rfl, b6 0 (by decide)]
    refine Ends.g (by unfold q681; decide) ?_
    by_cases c0 : 0 ≤ nsV u m (lnQ u m p) 0 ∧ nsV u m (lnQ u m p) 0 ≤ 2
    rotate_left
    · rw [decide_eq_false c0]
      exact Ends.b0 (fun _ => bad q6 _ _ G6 l6 (wrong (by show (bd200 (nsV u m (lnQ u m p)) 6 && holeOK (nsV u m (lnQ u m p))) = false; rw [show holeOK (nsV u m (lnQ u m p)) = false from decide_eq_false (fun w => c0 w.1), Bool.and_false]))) (fun z => absurd rfl z)
    rw [decide_eq_true c0]
    refine Ends.b0 (fun z => absurd z (by decide)) (fun _ => ?_)
    refine Ends.ct l6 (by decide +kernel) (by decide) (c_areBound547 (many := 6) l6 (by omega) b6 (by decide)) (fun v7 q7 l7 _ _ _ ⟨e7, ev7⟩ => ?_)
    subst e7
    rw [ev7]
    refine Ends.eq (b562_318 (n := n) (by (repeat' first | assumption | refine LX.setF _ _ ?_ (by decide +kernel) | refine LX.setS ?_ rfl | refine LX.setA ?_ (by first | assumption | omega))) (by first | assumption | omega)) ?_
    cases ok6 : bd200 (nsV u m (lnQ u m p)) 6
    · exact Ends.b0 (fun _ => bad q7 _ _ G6 l7 (wrong (by show (bd200 (nsV u m (lnQ u m p)) 6 && holeOK (nsV u m (lnQ u m p))) = false; rw [ok6, Bool.false_and]))) (fun z => absurd rfl z)
    refine Ends.b0 (fun z => absurd z (by decide)) (fun _ => ?_)
    rw [v681_d, show Int.toNat (5 : Int) = 5 from rfl, b6 5 (by decide)]
    refine Ends.g (by unfold q681; decide) ?_
    by_cases c5 : 1 ≤ nsV u m (lnQ u m p) 5 ∧ nsV u m (lnQ u m p) 5 ≤ 64
    rotate_left
    · rw [decide_eq_false c5]
      exact Ends.b1 (fun z => absurd rfl z) (fun _ => bad q7 _ _ G6 l7 (wrong (by show (bd200 (nsV u m (lnQ u m p)) 6 && holeOK (nsV u m (lnQ u m p))) = false; rw [show holeOK (nsV u m (lnQ u m p)) = false from decide_eq_false (fun w => c5 w.2), Bool.and_false])))
    rw [decide_eq_true c5]
    have okh : holeOK (nsV u m (lnQ u m p)) = true := decide_eq_true ⟨c0, c5⟩
    refine Ends.b1 (fun _ => ?_) (fun z => absurd z (by decide))
    exact hole_go l7 (by omega) hn m6 b6 (bd200_iff.mp ok6) okh rk.2.1 (x6 k hk4).2 (fun q8 g8_ m8 => some_ q7 q8 2 0 e q' _ _ G6 r6 g8_ (fun c j w => wto_ml rk.1 w) (fun c j w => by have := w.1; omega) (fun i j h1 h2 h3 h4 w => wto_row h4 (Nat.le_refl _) h2 w) m8 (by rw [eB]; show (if (bd200 (nsV u m (lnQ u m p)) 6 && holeOK (nsV u m (lnQ u m p))) = true then _ else _) = _; rw [ok6, okh]; rfl) en' rfl)
  rw [e4, t23]
  refine Ends.b0 (fun _ => ?_) (fun z => absurd rfl z)
  refine Ends.ct l3 (by decide +kernel) (by decide) (c_word843 l3 (by omega) (kwP 3 (by decide)) v3) (fun v4 q4 l4 _ _ _ ⟨g4, ww⟩ => ?_)
  have G4 : Agr (rwM B) h q4 := G3.tr g4 (fun c j w => Or.inl w)
  refine Ends.eq (b562_455 (n := n) (by (repeat' first | assumption | refine LX.setF _ _ ?_ (by decide +kernel) | refine LX.setS ?_ rfl | refine LX.setA ?_ (by first | assumption | omega))) (by first | assumption | omega)) ?_
  rcases ww with ⟨t31, e4, t33⟩ | ⟨t31, e4, t33⟩
  · rw [e4]
    refine Ends.b0 (fun z => absurd z (by decide)) (fun _ => ?_)
    have ekw : kwI u m (p + 3) = 3 := by unfold kwI; rw [t01, t11, t21, t31]; rfl
    have eQ : lnQ u m p = p + 3 + 6 := by unfold lnQ; rw [ekw]; rfl
    have eL' : lnS u m n p = lnR u m n k 3 (lnQ u m p) := by rw [eL, ekw]
    have t4 : RdM B q4 m u (lnQ u m p) := by rw [eQ]; exact t33
    refine Ends.ct l4 (by decide +kernel) (by decide) (c_together851 (op := 0) (k := k) l4 (by omega) hn (txk G4) t4 hu (xk G4) hk4 (by decide)) (fun v6 q6 l6 _ _ _ ⟨g6, ww⟩ => ?_)
    refine Ends.eq (b562_464 (n := n) (by (repeat' first | assumption | refine LX.setF _ _ ?_ (by decide +kernel) | refine LX.setS ?_ rfl | refine LX.setA ?_ (by first | assumption | omega))) (by first | assumption | omega)) ?_
    rcases ww with ⟨q', ok, en, e6, r6, x6⟩ | ⟨ok, e6⟩
    · rw [e6]
      refine Ends.g (Or.inr rfl) (Ends.sm (K _ _ ⟨(rw1 G4).tr g6 (fun c j w => w), Or.inl ⟨k, 3, (ubS u m (lnQ u m p + 1) - 48).toNat, lnQ u m p + 3, q', ?_, en, rfl, r6, hk4, x6⟩⟩))
      rw [eL']
      show (if (wdS u m (lnQ u m p) [35] && (dgO (ubS u m (lnQ u m p + 1)) && wdS u m (lnQ u m p + 2) [41])) = true then _ else _) = _
      rw [if_pos ok]
    · rw [e6]
      refine Ends.g (Or.inl rfl) (Ends.sm (K _ _ ⟨(rw1 G4).tr g6 (fun c j w => w), Or.inr ⟨?_, rfl⟩⟩))
      have eB : lnS u m n p = if (wdS u m (lnQ u m p) [35] && (dgO (ubS u m (lnQ u m p + 1)) && wdS u m (lnQ u m p + 2) [41])) = true then some (k, 3, (ubS u m (lnQ u m p + 1) - 48).toNat, lnQ u m p + 3) else none := by rw [eL']; rfl
      rcases ok with ok | ok
      · exact Or.inl (by rw [eB, ok]; rfl)
      · by_cases c : (wdS u m (lnQ u m p) [35] && (dgO (ubS u m (lnQ u m p + 1)) && wdS u m (lnQ u m p + 2) [41])) = true
        · exact Or.inr ⟨_, _, _, _, by rw [eB, if_pos c], ok⟩
        · exact Or.inl (by rw [eB, if_neg c])
  rw [e4, t33]
  refine Ends.b0 (fun _ => ?_) (fun z => absurd rfl z)
  refine Ends.ct l3 (by decide +kernel) (by decide) (c_word843 l3 (by omega) (kwP 4 (by decide)) v3) (fun v4 q4 l4 _ _ _ ⟨g4, ww⟩ => ?_)
  have G4 : Agr (rwM B) h q4 := G3.tr g4 (fun c j w => Or.inl w)
  refine Ends.eq (b562_472 (n := n) (by (repeat' first | assumption | refine LX.setF _ _ ?_ (by decide +kernel) | refine LX.setS ?_ rfl | refine LX.setA ?_ (by first | assumption | omega))) (by first | assumption | omega)) ?_
  rcases ww with ⟨t41, e4, t43⟩ | ⟨t41, e4, t43⟩
  · rw [e4]
    refine Ends.b0 (fun z => absurd z (by decide)) (fun _ => ?_)
    have ekw : kwI u m (p + 3) = 4 := by unfold kwI; rw [t01, t11, t21, t31, t41]; rfl
    have eQ : lnQ u m p = p + 3 + 5 := by unfold lnQ; rw [ekw]; rfl
    have eL' : lnS u m n p = lnR u m n k 4 (lnQ u m p) := by rw [eL, ekw]
    have t4 : RdM B q4 m u (lnQ u m p) := by rw [eQ]; exact t43
    refine Ends.ct l4 (by decide +kernel) (by decide) (c_together851 (op := 1) (k := k) l4 (by omega) hn (txk G4) t4 hu (xk G4) hk4 (by decide)) (fun v6 q6 l6 _ _ _ ⟨g6, ww⟩ => ?_)
    refine Ends.eq (b562_481 (n := n) (by (repeat' first | assumption | refine LX.setF _ _ ?_ (by decide +kernel) | refine LX.setS ?_ rfl | refine LX.setA ?_ (by first | assumption | omega))) (by first | assumption | omega)) ?_
    rcases ww with ⟨q', ok, en, e6, r6, x6⟩ | ⟨ok, e6⟩
    · rw [e6]
      refine Ends.g (Or.inr rfl) (Ends.sm (K _ _ ⟨(rw1 G4).tr g6 (fun c j w => w), Or.inl ⟨k, 4, (ubS u m (lnQ u m p + 1) - 48).toNat, lnQ u m p + 3, q', ?_, en, rfl, r6, hk4, x6⟩⟩))
      rw [eL']
      show (if (wdS u m (lnQ u m p) [35] && (dgO (ubS u m (lnQ u m p + 1)) && wdS u m (lnQ u m p + 2) [41])) = true then _ else _) = _
      rw [if_pos ok]
    · rw [e6]
      refine Ends.g (Or.inl rfl) (Ends.sm (K _ _ ⟨(rw1 G4).tr g6 (fun c j w => w), Or.inr ⟨?_, rfl⟩⟩))
      have eB : lnS u m n p = if (wdS u m (lnQ u m p) [35] && (dgO (ubS u m (lnQ u m p + 1)) && wdS u m (lnQ u m p + 2) [41])) = true then some (k, 4, (ubS u m (lnQ u m p + 1) - 48).toNat, lnQ u m p + 3) else none := by rw [eL']; rfl
      rcases ok with ok | ok
      · exact Or.inl (by rw [eB, ok]; rfl)
      · by_cases c : (wdS u m (lnQ u m p) [35] && (dgO (ubS u m (lnQ u m p + 1)) && wdS u m (lnQ u m p + 2) [41])) = true
        · exact Or.inr ⟨_, _, _, _, by rw [eB, if_pos c], ok⟩
        · exact Or.inl (by rw [eB, if_neg c])
  rw [e4, t43]
  refine Ends.b0 (fun _ => ?_) (fun z => absurd rfl z)
  refine Ends.ct l3 (by decide +kernel) (by decide) (c_word843 l3 (by omega) (kwP 5 (by decide)) v3) (fun v4 q4 l4 _ _ _ ⟨g4, ww⟩ => ?_)
  have G4 : Agr (rwM B) h q4 := G3.tr g4 (fun c j w => Or.inl w)
  refine Ends.eq (b562_489 (n := n) (by (repeat' first | assumption | refine LX.setF _ _ ?_ (by decide +kernel) | refine LX.setS ?_ rfl | refine LX.setA ?_ (by first | assumption | omega))) (by first | assumption | omega)) ?_
  rcases ww with ⟨t51, e4, t53⟩ | ⟨t51, e4, t53⟩
  · rw [e4]
    refine Ends.b0 (fun z => absurd z (by decide)) (fun _ => ?_)
    have ekw : kwI u m (p + 3) = 5 := by unfold kwI; rw [t01, t11, t21, t31, t41, t51]; rfl
    have eQ : lnQ u m p = p + 3 + 7 := by unfold lnQ; rw [ekw]; rfl
    have eL' : lnS u m n p = lnR u m n k 5 (lnQ u m p) := by rw [eL, ekw]
    have t4 : RdM B q4 m u (lnQ u m p) := by rw [eQ]; exact t53
    refine Ends.ct l4 (by decide +kernel) (by decide) (c_together851 (op := 2) (k := k) l4 (by omega) hn (txk G4) t4 hu (xk G4) hk4 (by decide)) (fun v6 q6 l6 _ _ _ ⟨g6, ww⟩ => ?_)
    refine Ends.eq (b562_498 (n := n) (by (repeat' first | assumption | refine LX.setF _ _ ?_ (by decide +kernel) | refine LX.setS ?_ rfl | refine LX.setA ?_ (by first | assumption | omega))) (by first | assumption | omega)) ?_
    rcases ww with ⟨q', ok, en, e6, r6, x6⟩ | ⟨ok, e6⟩
    · rw [e6]
      refine Ends.g (Or.inr rfl) (Ends.sm (K _ _ ⟨(rw1 G4).tr g6 (fun c j w => w), Or.inl ⟨k, 5, (ubS u m (lnQ u m p + 1) - 48).toNat, lnQ u m p + 3, q', ?_, en, rfl, r6, hk4, x6⟩⟩))
      rw [eL']
      show (if (wdS u m (lnQ u m p) [35] && (dgO (ubS u m (lnQ u m p + 1)) && wdS u m (lnQ u m p + 2) [41])) = true then _ else _) = _
      rw [if_pos ok]
    · rw [e6]
      refine Ends.g (Or.inl rfl) (Ends.sm (K _ _ ⟨(rw1 G4).tr g6 (fun c j w => w), Or.inr ⟨?_, rfl⟩⟩))
      have eB : lnS u m n p = if (wdS u m (lnQ u m p) [35] && (dgO (ubS u m (lnQ u m p + 1)) && wdS u m (lnQ u m p + 2) [41])) = true then some (k, 5, (ubS u m (lnQ u m p + 1) - 48).toNat, lnQ u m p + 3) else none := by rw [eL']; rfl
      rcases ok with ok | ok
      · exact Or.inl (by rw [eB, ok]; rfl)
      · by_cases c : (wdS u m (lnQ u m p) [35] && (dgO (ubS u m (lnQ u m p + 1)) && wdS u m (lnQ u m p + 2) [41])) = true
        · exact Or.inr ⟨_, _, _, _, by rw [eB, if_pos c], ok⟩
        · exact Or.inl (by rw [eB, if_neg c])
  rw [e4, t53]
  refine Ends.b0 (fun _ => ?_) (fun z => absurd rfl z)
  refine Ends.ct l3 (by decide +kernel) (by decide) (c_word843 l3 (by omega) (kwP 6 (by decide)) v3) (fun v4 q4 l4 _ _ _ ⟨g4, ww⟩ => ?_)
  have G4 : Agr (rwM B) h q4 := G3.tr g4 (fun c j w => Or.inl w)
  refine Ends.eq (b562_506 (n := n) (by (repeat' first | assumption | refine LX.setF _ _ ?_ (by decide +kernel) | refine LX.setS ?_ rfl | refine LX.setA ?_ (by first | assumption | omega))) (by first | assumption | omega)) ?_
  rcases ww with ⟨t61, e4, t63⟩ | ⟨t61, e4, t63⟩
  · rw [e4]
    refine Ends.b0 (fun z => absurd z (by decide)) (fun _ => ?_)
    have ekw : kwI u m (p + 3) = 6 := by unfold kwI; rw [t01, t11, t21, t31, t41, t51, t61]; rfl
    have eQ : lnQ u m p = p + 3 + 5 := by unfold lnQ; rw [ekw]; rfl
    have eL' : lnS u m n p = lnR u m n k 6 (lnQ u m p) := by rw [eL, ekw]
    have t4 : RdM B q4 m u (lnQ u m p) := by rw [eQ]; exact t63
    have bad : ∀ (q : AH) (x1 : Int) (u2 : AV), Agr (rwM B) h q → LX B n q → (lnS u m n p = none ∨ ∃ k kd o e, lnS u m n p = some (k, kd, o, e) ∧ enS u m e = none) → Ends (ev PP (gsF gv) B d 562 532 [(2, rf (B + 149)), (0, x1), u2] [] q) P := fun q x1 u2 gq lq w => by
      refine Ends.eq (b562_532 (n := n) (by (repeat' first | assumption | refine LX.setF _ _ ?_ (by decide +kernel) | refine LX.setS ?_ rfl | refine LX.setA ?_ (by first | assumption | omega))) (by first | assumption | omega)) ?_
      exact Ends.sm (none_ q gq w)
    refine Ends.ct l4 (by decide +kernel) (by decide) (num q4 3 (lnQ u m p) l4 G4 t4 (by decide)) (fun v5 q5 l5 _ _ _ ⟨g5, ww⟩ => ?_)
    have G5 : Agr (rwM B) h q5 := G4.tr g5 (fun c j w => w)
    refine Ends.eq (b562_514 (n := n) (by (repeat' first | assumption | refine LX.setF _ _ ?_ (by decide +kernel) | refine LX.setS ?_ rfl | refine LX.setA ?_ (by first | assumption | omega))) (by first | assumption | omega)) ?_
    rcases ww with ⟨e, en, ev5, r5, b5⟩ | ⟨en, ev5⟩
    rotate_left
    · rw [ev5]
      exact Ends.b0 (fun _ => bad q5 _ _ G5 l5 (Or.inl (by rw [eL']; show (match nuS u m (lnQ u m p) 3 with | none => none | some e => _) = none; rw [en]))) (fun z => absurd rfl z)
    rw [ev5]
    have eB : lnS u m n p = if bdS n 6 (nsV u m (lnQ u m p)) = true then some (k, 6, 0, e) else none := by rw [eL']; show (match nuS u m (lnQ u m p) 3 with | none => none | some e => if bdS n 6 (nsV u m (lnQ u m p)) = true then some (k, 6, 0, e) else none) = _; rw [en]
    refine Ends.b0 (fun z => absurd z (by decide)) (fun _ => ?_)
    refine Ends.ct l5 (by decide +kernel) (by decide) (endl q5 e l5 G5 r5) (fun v6 q6 l6 _ _ _ ⟨g6, ww⟩ => ?_)
    have G6 : Agr (rwM B) h q6 := G5.tr g6 (fun c j w => Or.inl w)
    have b6 := b5.agr g6 (fun k w => by unfold atM at w; omega)
    refine Ends.eq (b562_521 (n := n) (by (repeat' first | assumption | refine LX.setF _ _ ?_ (by decide +kernel) | refine LX.setS ?_ rfl | refine LX.setA ?_ (by first | assumption | omega))) (by first | assumption | omega)) ?_
    rcases ww with ⟨q', en', ev6, r6⟩ | ⟨en', ev6⟩
    rotate_left
    · rw [ev6]
      refine Ends.b0 (fun _ => bad q6 _ _ G6 l6 ?_) (fun z => absurd rfl z)
      by_cases c : bdS n 6 (nsV u m (lnQ u m p)) = true
      · exact Or.inr ⟨_, _, _, _, by rw [eB, if_pos c], en'⟩
      · exact Or.inl (by rw [eB, if_neg c])
    rw [ev6]
    refine Ends.b0 (fun z => absurd z (by decide)) (fun _ => ?_)
    have x6 := xk G6
    have m6 := mk G6
    have wrong : bdS n 6 (nsV u m (lnQ u m p)) = false → (lnS u m n p = none ∨ ∃ k kd o e, lnS u m n p = some (k, kd, o, e) ∧ enS u m e = none) := fun w => Or.inl (by rw [eB, w]; rfl)
    refine Ends.ct l6 (by decide +kernel) (by decide) (c_areBound547 (many := 3) l6 (by omega) b6 (by decide)) (fun v7 q7 l7 _ _ _ ⟨e7, ev7⟩ => ?_)
    subst e7
    rw [ev7]
    refine Ends.eq (b562_529 (n := n) (by (repeat' first | assumption | refine LX.setF _ _ ?_ (by decide +kernel) | refine LX.setS ?_ rfl | refine LX.setA ?_ (by first | assumption | omega))) (by first | assumption | omega)) ?_
    cases ok : bd200 (nsV u m (lnQ u m p)) 3
    · exact Ends.b1 (fun z => absurd rfl z) (fun _ => bad q7 _ _ G6 l7 (wrong ok))
    have ok' := bd200_iff.mp ok
    have z0 := ok' 0 (by decide)
    have z1 := ok' 1 (by decide)
    have z2 := ok' 2 (by decide)
    refine Ends.b1 (fun _ => ?_) (fun z => absurd z (by decide))
    -- what was moved is in row 13
    have fin : ∀ (q8 : AH) (u2 : AV) (W : Nat → Nat → Prop) (TT : Nat → Bool), LX B n q8 → Agr W q7 q8 → (∀ c j, W c j → wTurn B n 13 c j) → MB B n q8 13 TT → (∀ g, g < gN n → TT g = mvG n (S k) (nsV u m (lnQ u m p) 0) (nsV u m (lnQ u m p) 1) (nsV u m (lnQ u m p) 2) g) → Ends (ev PP (gsF gv) B d 562 608 [(2, rf (B + 149)), (0, (ld k : Int)), u2] [] q8) P := fun q8 u2 W TT l8 g8_ hW m8 eT => by
      refine Ends.eq (b562_608 (n := n) (by (repeat' first | assumption | refine LX.setF _ _ ?_ (by decide +kernel) | refine LX.setS ?_ rfl | refine LX.setA ?_ (by first | assumption | omega))) (by first | assumption | omega)) ?_
      refine Ends.cv l8 (by decide +kernel) (c_copyM (s := 13) (t := ld k) l8 (by omega) hn (by decide) rk.2.1 m8) (fun q9 l9 _ _ _ ⟨g9, m9⟩ => ?_)
      refine Ends.eq (b562_615 (n := n) (by (repeat' first | assumption | refine LX.setF _ _ ?_ (by decide +kernel) | refine LX.setS ?_ rfl | refine LX.setA ?_ (by first | assumption | omega))) (by first | assumption | omega)) ?_
      refine Ends.eq (b562_806 (n := n) (by (repeat' first | assumption | refine LX.setF _ _ ?_ (by decide +kernel) | refine LX.setS ?_ rfl | refine LX.setA ?_ (by first | assumption | omega))) (by first | assumption | omega)) ?_
      refine Ends.sm (some_ q7 q9 6 0 e q' (fun c j => wTurn B n 13 c j ∨ wto B n (ld k) (wN n) c j) _ G6 r6 ((g8_.sub (fun c j w => Or.inl (hW c j w))).tr g9 (fun c j w => Or.inr w)) (fun c j w => ?_) (fun c j w => ?_) (fun i j h1 h2 h3 h4 w => ?_) (m9.congr eT) (by rw [eB]; show (if bd200 (nsV u m (lnQ u m p)) 3 = true then _ else _) = _; rw [ok]; rfl) en' rfl)
      · rcases w with (w | w | w) | w
        · exact wto_ml (by decide) w
        · exact Or.inr (Or.inr (Or.inr (Or.inl w)))
        · exact Or.inl ⟨w.1, Or.inr w.2⟩
        · exact wto_ml rk.1 w
      · rcases w with (w | w | w) | w
        · have := w.1; omega
        · omega
        · omega
        · have := w.1; omega
      · rcases w with (w | w | w) | w
        · exact wto_row h4 (Nat.le_refl _) (by omega) w
        · omega
        · omega
        · exact wto_row h4 (Nat.le_refl _) h2 w
    -- too far
    have far : (((n : Int) < nsV u m (lnQ u m p) 0 ∨ nsV u m (lnQ u m p) 0 < -(n : Int)) ∨ ((n : Int) < nsV u m (lnQ u m p) 1 ∨ nsV u m (lnQ u m p) 1 < -(n : Int)) ∨ (n : Int) < nsV u m (lnQ u m p) 2 ∨ nsV u m (lnQ u m p) 2 < -(n : Int)) → ∀ u2 : AV, Ends (ev PP (gsF gv) B d 562 573 [(2, rf (B + 149)), (0, (ld k : Int)), u2] [] q7) P := fun w u2 => by
      refine Ends.eq (b562_573 (n := n) (by (repeat' first | assumption | refine LX.setF _ _ ?_ (by decide +kernel) | refine LX.setS ?_ rfl | refine LX.setA ?_ (by first | assumption | omega))) (by first | assumption | omega)) ?_
      refine Ends.cv l7 (by decide +kernel) (c_empty (s := 13) l7 (by omega) hn (by decide)) (fun q8 l8 _ _ _ ⟨g8_, m8⟩ => ?_)
      refine Ends.eq (b562_579 (n := n) (by (repeat' first | assumption | refine LX.setF _ _ ?_ (by decide +kernel) | refine LX.setS ?_ rfl | refine LX.setA ?_ (by first | assumption | omega))) (by first | assumption | omega)) ?_
      exact fin q8 _ _ _ l8 g8_ (fun c j w => Or.inl w) m8 (fun g hg => (mvG_far hg w).symm)
    rw [v623_d hn, v623_d hn, v623_d hn, show Int.toNat (0 : Int) = 0 from rfl, show Int.toNat (1 : Int) = 1 from rfl, show Int.toNat (2 : Int) = 2 from rfl, b6 0 (by decide), b6 1 (by decide), b6 2 (by decide)]
    by_cases f0 : (n : Int) < nsV u m (lnQ u m p) 0 ∨ nsV u m (lnQ u m p) 0 < -(n : Int)
    · rw [decide_eq_true f0]
      exact Ends.b1 (fun _ => far (Or.inl f0) _) (fun z => absurd z (by decide))
    rw [decide_eq_false f0]
    refine Ends.b1 (fun z => absurd rfl z) (fun _ => ?_)
    by_cases f1 : (n : Int) < nsV u m (lnQ u m p) 1 ∨ nsV u m (lnQ u m p) 1 < -(n : Int)
    · rw [decide_eq_true f1]
      exact Ends.b1 (fun _ => far (Or.inr (Or.inl f1)) _) (fun z => absurd z (by decide))
    rw [decide_eq_false f1]
    refine Ends.b1 (fun z => absurd rfl z) (fun _ => ?_)
    by_cases f2 : (n : Int) < nsV u m (lnQ u m p) 2 ∨ nsV u m (lnQ u m p) 2 < -(n : Int)
    · rw [decide_eq_true f2]
      exact Ends.b0 (fun z => absurd z (by decide)) (fun _ => far (Or.inr (Or.inr f2)) _)
    rw [decide_eq_false f2]
    refine Ends.b0 (fun _ => ?_) (fun z => absurd rfl z)
    refine Ends.cv l7 (by decide +kernel) (c_turnM (s := ld k) (t := 13) l7 (by omega) hn rk.2.1 (by decide) (by omega) m6 (x6 k hk4).2 (w := 0) (by decide) (dx := nsV u m (lnQ u m p) 0) (dy := nsV u m (lnQ u m p) 1) (dz := nsV u m (lnQ u m p) 2) (by omega) (by omega) (by omega)) (fun q8 l8 _ _ _ ⟨g8_, ⟨R, m8, hR⟩, _⟩ => ?_)
    exact fin q8 _ _ _ l8 g8_ (fun c j w => w) m8 (fun g hg => Bool.eq_iff_iff.mpr ((hR g hg).trans (mvG_iff hn hg).symm))
  rw [e4, t63]
  refine Ends.b0 (fun _ => ?_) (fun z => absurd rfl z)
  refine Ends.ct l3 (by decide +kernel) (by decide) (c_word843 l3 (by omega) (kwP 7 (by decide)) v3) (fun v4 q4 l4 _ _ _ ⟨g4, ww⟩ => ?_)
  have G4 : Agr (rwM B) h q4 := G3.tr g4 (fun c j w => Or.inl w)
  refine Ends.eq (b562_625 (n := n) (by (repeat' first | assumption | refine LX.setF _ _ ?_ (by decide +kernel) | refine LX.setS ?_ rfl | refine LX.setA ?_ (by first | assumption | omega))) (by first | assumption | omega)) ?_
  rcases ww with ⟨t71, e4, t73⟩ | ⟨t71, e4, t73⟩
  · rw [e4]
    refine Ends.b0 (fun z => absurd z (by decide)) (fun _ => ?_)
    have ekw : kwI u m (p + 3) = 7 := by unfold kwI; rw [t01, t11, t21, t31, t41, t51, t61, t71]; rfl
    have eQ : lnQ u m p = p + 3 + 4 := by unfold lnQ; rw [ekw]; rfl
    have eL' : lnS u m n p = lnR u m n k 7 (lnQ u m p) := by rw [eL, ekw]
    have t4 : RdM B q4 m u (lnQ u m p) := by rw [eQ]; exact t73
    have bad : ∀ (q : AH) (x1 : Int) (u2 : AV), Agr (rwM B) h q → LX B n q → (lnS u m n p = none ∨ ∃ k kd o e, lnS u m n p = some (k, kd, o, e) ∧ enS u m e = none) → Ends (ev PP (gsF gv) B d 562 654 [(2, rf (B + 149)), (0, x1), u2] [] q) P := fun q x1 u2 gq lq w => by
      refine Ends.eq (b562_654 (n := n) (by (repeat' first | assumption | refine LX.setF _ _ ?_ (by decide +kernel) | refine LX.setS ?_ rfl | refine LX.setA ?_ (by first | assumption | omega))) (by first | assumption | omega)) ?_
      exact Ends.sm (none_ q gq w)
    refine Ends.ct l4 (by decide +kernel) (by decide) (num q4 1 (lnQ u m p) l4 G4 t4 (by decide)) (fun v5 q5 l5 _ _ _ ⟨g5, ww⟩ => ?_)
    have G5 : Agr (rwM B) h q5 := G4.tr g5 (fun c j w => w)
    refine Ends.eq (b562_633 (n := n) (by (repeat' first | assumption | refine LX.setF _ _ ?_ (by decide +kernel) | refine LX.setS ?_ rfl | refine LX.setA ?_ (by first | assumption | omega))) (by first | assumption | omega)) ?_
    rcases ww with ⟨e, en, ev5, r5, b5⟩ | ⟨en, ev5⟩
    rotate_left
    · rw [ev5]
      exact Ends.b0 (fun _ => bad q5 _ _ G5 l5 (Or.inl (by rw [eL']; show (match nuS u m (lnQ u m p) 1 with | none => none | some e => _) = none; rw [en]))) (fun z => absurd rfl z)
    rw [ev5]
    have eB : lnS u m n p = if bdS n 7 (nsV u m (lnQ u m p)) = true then some (k, 7, 0, e) else none := by rw [eL']; show (match nuS u m (lnQ u m p) 1 with | none => none | some e => if bdS n 7 (nsV u m (lnQ u m p)) = true then some (k, 7, 0, e) else none) = _; rw [en]
    refine Ends.b0 (fun z => absurd z (by decide)) (fun _ => ?_)
    refine Ends.ct l5 (by decide +kernel) (by decide) (endl q5 e l5 G5 r5) (fun v6 q6 l6 _ _ _ ⟨g6, ww⟩ => ?_)
    have G6 : Agr (rwM B) h q6 := G5.tr g6 (fun c j w => Or.inl w)
    have b6 := b5.agr g6 (fun k w => by unfold atM at w; omega)
    refine Ends.eq (b562_640 (n := n) (by (repeat' first | assumption | refine LX.setF _ _ ?_ (by decide +kernel) | refine LX.setS ?_ rfl | refine LX.setA ?_ (by first | assumption | omega))) (by first | assumption | omega)) ?_
    rcases ww with ⟨q', en', ev6, r6⟩ | ⟨en', ev6⟩
    rotate_left
    · rw [ev6]
      refine Ends.b0 (fun _ => bad q6 _ _ G6 l6 ?_) (fun z => absurd rfl z)
      by_cases c : bdS n 7 (nsV u m (lnQ u m p)) = true
      · exact Or.inr ⟨_, _, _, _, by rw [eB, if_pos c], en'⟩
      · exact Or.inl (by rw [eB, if_neg c])
    rw [ev6]
    refine Ends.b0 (fun z => absurd z (by decide)) (fun _ => ?_)
    have x6 := xk G6
    have m6 := mk G6
    have wrong : bdS n 7 (nsV u m (lnQ u m p)) = false → (lnS u m n p = none ∨ ∃ k kd o e, lnS u m n p = some (k, kd, o, e) ∧ enS u m e = none) := fun w => Or.inl (by rw [eB, w]; rfl)
    rw [v681_d, show Int.toNat (0 : Int) = 0 from rfl, b6 0 (by decide)]
    refine Ends.g (by unfold q681; decide) ?_
    by_cases c0 : 0 ≤ nsV u m (lnQ u m p) 0 ∧ nsV u m (lnQ u m p) 0 ≤ 47
    rotate_left
    · rw [decide_eq_false c0]
      exact Ends.b1 (fun z => absurd rfl z) (fun _ => bad q6 _ _ G6 l6 (wrong (decide_eq_false c0)))
    rw [decide_eq_true c0]
    have ok : bdS n 7 (nsV u m (lnQ u m p)) = true := decide_eq_true c0
    refine Ends.b1 (fun _ => ?_) (fun z => absurd z (by decide))
    obtain ⟨w0, ew⟩ : ∃ t : Nat, nsV u m (lnQ u m p) 0 = (t : Int) := ⟨(nsV u m (lnQ u m p) 0).toNat, by omega⟩
    rw [ew]
    refine Ends.cv l6 (by decide +kernel) (c_turnM (s := ld k) (t := 13) l6 (by omega) hn rk.2.1 (by decide) (by omega) m6 (x6 k hk4).2 (w := w0) (by omega) (dx := 0) (dy := 0) (dz := 0) (by decide) (by decide) (by decide)) (fun q7 l7 _ _ _ ⟨g7, ⟨R, m7', hR⟩, _⟩ => ?_)
    have m7 : MB B n q7 13 (tnG n w0 (S k)) := m7'.congr (fun g hg => Bool.eq_iff_iff.mpr ((hR g hg).trans tnG_iff.symm))
    have g7 := g7.sub (W' := fun c j => wTurn B n 13 c j ∨ wto B n (ld k) (wN n) c j) (fun c j w => Or.inl w)
    refine Ends.eq (b562_672 (n := n) (by (repeat' first | assumption | refine LX.setF _ _ ?_ (by decide +kernel) | refine LX.setS ?_ rfl | refine LX.setA ?_ (by first | assumption | omega))) (by first | assumption | omega)) ?_
    refine Ends.cv l7 (by decide +kernel) (c_copyM (s := 13) (t := ld k) l7 (by omega) hn (by decide) rk.2.1 m7) (fun q8 l8 _ _ _ ⟨g8_, m8⟩ => ?_)
    refine Ends.eq (b562_679 (n := n) (by (repeat' first | assumption | refine LX.setF _ _ ?_ (by decide +kernel) | refine LX.setS ?_ rfl | refine LX.setA ?_ (by first | assumption | omega))) (by first | assumption | omega)) ?_
    refine Ends.eq (b562_806 (n := n) (by (repeat' first | assumption | refine LX.setF _ _ ?_ (by decide +kernel) | refine LX.setS ?_ rfl | refine LX.setA ?_ (by first | assumption | omega))) (by first | assumption | omega)) ?_
    refine Ends.sm (some_ q6 q8 7 0 e q' _ _ G6 r6 (g7.tr (W := fun c j => wTurn B n 13 c j ∨ wto B n (ld k) (wN n) c j) g8_ (fun c j w => Or.inr w)) (fun c j w => ?_) (fun c j w => ?_) (fun i j h1 h2 h3 h4 w => ?_) m8 (by rw [eB, ok]; rfl) en' (by show tnG n (nsV u m (lnQ u m p) 0).toNat (S k) = _; rw [ew]; rfl))
    · rcases w with (w | w | w) | w
      · exact wto_ml (by decide) w
      · exact Or.inr (Or.inr (Or.inr (Or.inl w)))
      · exact Or.inl ⟨w.1, Or.inr w.2⟩
      · exact wto_ml rk.1 w
    · rcases w with (w | w | w) | w
      · have := w.1; omega
      · omega
      · omega
      · have := w.1; omega
    · rcases w with (w | w | w) | w
      · exact wto_row h4 (Nat.le_refl _) (by omega) w
      · omega
      · omega
      · exact wto_row h4 (Nat.le_refl _) h2 w
  rw [e4, t73]
  refine Ends.b0 (fun _ => ?_) (fun z => absurd rfl z)
  refine Ends.ct l3 (by decide +kernel) (by decide) (c_word843 l3 (by omega) (kwP 8 (by decide)) v3) (fun v4 q4 l4 _ _ _ ⟨g4, ww⟩ => ?_)
  have G4 : Agr (rwM B) h q4 := G3.tr g4 (fun c j w => Or.inl w)
  refine Ends.eq (b562_689 (n := n) (by (repeat' first | assumption | refine LX.setF _ _ ?_ (by decide +kernel) | refine LX.setS ?_ rfl | refine LX.setA ?_ (by first | assumption | omega))) (by first | assumption | omega)) ?_
  rcases ww with ⟨t81, e4, t83⟩ | ⟨t81, e4, t83⟩
  · rw [e4]
    refine Ends.b0 (fun z => absurd z (by decide)) (fun _ => ?_)
    have ekw : kwI u m (p + 3) = 8 := by unfold kwI; rw [t01, t11, t21, t31, t41, t51, t61, t71, t81]; rfl
    have eQ : lnQ u m p = p + 3 + 5 := by unfold lnQ; rw [ekw]; rfl
    have eL' : lnS u m n p = lnR u m n k 8 (lnQ u m p) := by rw [eL, ekw]
    have t4 : RdM B q4 m u (lnQ u m p) := by rw [eQ]; exact t83
    have bad : ∀ (q : AH) (x1 : Int) (u2 : AV), Agr (rwM B) h q → LX B n q → (lnS u m n p = none ∨ ∃ k kd o e, lnS u m n p = some (k, kd, o, e) ∧ enS u m e = none) → Ends (ev PP (gsF gv) B d 562 718 [(2, rf (B + 149)), (0, x1), u2] [] q) P := fun q x1 u2 gq lq w => by
      refine Ends.eq (b562_718 (n := n) (by (repeat' first | assumption | refine LX.setF _ _ ?_ (by decide +kernel) | refine LX.setS ?_ rfl | refine LX.setA ?_ (by first | assumption | omega))) (by first | assumption | omega)) ?_
      exact Ends.sm (none_ q gq w)
    refine Ends.ct l4 (by decide +kernel) (by decide) (num q4 1 (lnQ u m p) l4 G4 t4 (by decide)) (fun v5 q5 l5 _ _ _ ⟨g5, ww⟩ => ?_)
    have G5 : Agr (rwM B) h q5 := G4.tr g5 (fun c j w => w)
    refine Ends.eq (b562_697 (n := n) (by (repeat' first | assumption | refine LX.setF _ _ ?_ (by decide +kernel) | refine LX.setS ?_ rfl | refine LX.setA ?_ (by first | assumption | omega))) (by first | assumption | omega)) ?_
    rcases ww with ⟨e, en, ev5, r5, b5⟩ | ⟨en, ev5⟩
    rotate_left
    · rw [ev5]
      exact Ends.b0 (fun _ => bad q5 _ _ G5 l5 (Or.inl (by rw [eL']; show (match nuS u m (lnQ u m p) 1 with | none => none | some e => _) = none; rw [en]))) (fun z => absurd rfl z)
    rw [ev5]
    have eB : lnS u m n p = if bdS n 8 (nsV u m (lnQ u m p)) = true then some (k, 8, 0, e) else none := by rw [eL']; show (match nuS u m (lnQ u m p) 1 with | none => none | some e => if bdS n 8 (nsV u m (lnQ u m p)) = true then some (k, 8, 0, e) else none) = _; rw [en]
    refine Ends.b0 (fun z => absurd z (by decide)) (fun _ => ?_)
    refine Ends.ct l5 (by decide +kernel) (by decide) (endl q5 e l5 G5 r5) (fun v6 q6 l6 _ _ _ ⟨g6, ww⟩ => ?_)
    have G6 : Agr (rwM B) h q6 := G5.tr g6 (fun c j w => Or.inl w)
    have b6 := b5.agr g6 (fun k w => by unfold atM at w; omega)
    refine Ends.eq (b562_704 (n := n) (by (repeat' first | assumption | refine LX.setF _ _ ?_ (by decide +kernel) | refine LX.setS ?_ rfl | refine LX.setA ?_ (by first | assumption | omega))) (by first | assumption | omega)) ?_
    rcases ww with ⟨q', en', ev6, r6⟩ | ⟨en', ev6⟩
    rotate_left
    · rw [ev6]
      refine Ends.b0 (fun _ => bad q6 _ _ G6 l6 ?_) (fun z => absurd rfl z)
      by_cases c : bdS n 8 (nsV u m (lnQ u m p)) = true
      · exact Or.inr ⟨_, _, _, _, by rw [eB, if_pos c], en'⟩
      · exact Or.inl (by rw [eB, if_neg c])
    rw [ev6]
    refine Ends.b0 (fun z => absurd z (by decide)) (fun _ => ?_)
    have x6 := xk G6
    have m6 := mk G6
    have wrong : bdS n 8 (nsV u m (lnQ u m p)) = false → (lnS u m n p = none ∨ ∃ k kd o e, lnS u m n p = some (k, kd, o, e) ∧ enS u m e = none) := fun w => Or.inl (by rw [eB, w]; rfl)
    rw [v681_d, show Int.toNat (0 : Int) = 0 from rfl, b6 0 (by decide)]
    refine Ends.g (by unfold q681; decide) ?_
    by_cases c0 : 1 ≤ nsV u m (lnQ u m p) 0 ∧ nsV u m (lnQ u m p) 0 ≤ 8
    rotate_left
    · rw [decide_eq_false c0]
      exact Ends.b1 (fun z => absurd rfl z) (fun _ => bad q6 _ _ G6 l6 (wrong (decide_eq_false c0)))
    rw [decide_eq_true c0]
    have ok : bdS n 8 (nsV u m (lnQ u m p)) = true := decide_eq_true c0
    refine Ends.b1 (fun _ => ?_) (fun z => absurd z (by decide))
    obtain ⟨w0, ew⟩ : ∃ t : Nat, nsV u m (lnQ u m p) 0 = (t : Int) := ⟨(nsV u m (lnQ u m p) 0).toNat, by omega⟩
    rw [ew]
    refine Ends.cv l6 (by decide +kernel) (c_growM (s := ld k) (t := 13) l6 (by omega) hn rk.2.1 (by decide) (by omega) (x6 k hk4).2 (r := w0) (by omega)) (fun q7 l7 _ _ _ ⟨g7, R, m7', hR⟩ => ?_)
    have m7 : MB B n q7 13 (grk n (S k) w0) := m7'.congr (fun g hg => Bool.eq_iff_iff.mpr ((hR g hg).trans (grk_near (n := n) (S := S k) w0 hg).symm))
    have g7 := g7.sub (W' := fun c j => wto3 B n 13 c j ∨ wto B n (ld k) (wN n) c j) (fun c j w => Or.inl w)
    refine Ends.eq (b562_733 (n := n) (by (repeat' first | assumption | refine LX.setF _ _ ?_ (by decide +kernel) | refine LX.setS ?_ rfl | refine LX.setA ?_ (by first | assumption | omega))) (by first | assumption | omega)) ?_
    refine Ends.cv l7 (by decide +kernel) (c_copyM (s := 13) (t := ld k) l7 (by omega) hn (by decide) rk.2.1 m7) (fun q8 l8 _ _ _ ⟨g8_, m8⟩ => ?_)
    refine Ends.eq (b562_740 (n := n) (by (repeat' first | assumption | refine LX.setF _ _ ?_ (by decide +kernel) | refine LX.setS ?_ rfl | refine LX.setA ?_ (by first | assumption | omega))) (by first | assumption | omega)) ?_
    refine Ends.eq (b562_806 (n := n) (by (repeat' first | assumption | refine LX.setF _ _ ?_ (by decide +kernel) | refine LX.setS ?_ rfl | refine LX.setA ?_ (by first | assumption | omega))) (by first | assumption | omega)) ?_
    refine Ends.sm (some_ q6 q8 8 0 e q' _ _ G6 r6 (g7.tr (W := fun c j => wto3 B n 13 c j ∨ wto B n (ld k) (wN n) c j) g8_ (fun c j w => Or.inr w)) (fun c j w => ?_) (fun c j w => ?_) (fun i j h1 h2 h3 h4 w => ?_) m8 (by rw [eB, ok]; rfl) en' (by show grk n (S k) (nsV u m (lnQ u m p) 0).toNat = _; rw [ew]; rfl))
    · rcases w with w | w
      · exact wto3_ml (by decide) w
      · exact wto_ml rk.1 w
    · rcases w with w | w
      · have := wto3_c w; omega
      · have := w.1; omega
    · rcases w with w | w
      · exact wto3_row h4 (by omega) (by omega) (by omega) w
      · exact wto_row h4 (Nat.le_refl _) h2 w
  rw [e4, t83]
  refine Ends.b0 (fun _ => ?_) (fun z => absurd rfl z)
  refine Ends.ct l3 (by decide +kernel) (by decide) (c_word843 l3 (by omega) (kwP 9 (by decide)) v3) (fun v4 q4 l4 _ _ _ ⟨g4, ww⟩ => ?_)
  have G4 : Agr (rwM B) h q4 := G3.tr g4 (fun c j w => Or.inl w)
  refine Ends.eq (b562_750 (n := n) (by (repeat' first | assumption | refine LX.setF _ _ ?_ (by decide +kernel) | refine LX.setS ?_ rfl | refine LX.setA ?_ (by first | assumption | omega))) (by first | assumption | omega)) ?_
  rcases ww with ⟨t91, e4, t93⟩ | ⟨t91, e4, t93⟩
  · rw [e4]
    refine Ends.b0 (fun z => absurd z (by decide)) (fun _ => ?_)
    have ekw : kwI u m (p + 3) = 9 := by unfold kwI; rw [t01, t11, t21, t31, t41, t51, t61, t71, t81, t91]; rfl
    have eQ : lnQ u m p = p + 3 + 7 := by unfold lnQ; rw [ekw]; rfl
    have eL' : lnS u m n p = lnR u m n k 9 (lnQ u m p) := by rw [eL, ekw]
    have t4 : RdM B q4 m u (lnQ u m p) := by rw [eQ]; exact t93
    have bad : ∀ (q : AH) (x1 : Int) (u2 : AV), Agr (rwM B) h q → LX B n q → (lnS u m n p = none ∨ ∃ k kd o e, lnS u m n p = some (k, kd, o, e) ∧ enS u m e = none) → Ends (ev PP (gsF gv) B d 562 779 [(2, rf (B + 149)), (0, x1), u2] [] q) P := fun q x1 u2 gq lq w => by
      refine Ends.eq (b562_779 (n := n) (by (repeat' first | assumption | refine LX.setF _ _ ?_ (by decide +kernel) | refine LX.setS ?_ rfl | refine LX.setA ?_ (by first | assumption | omega))) (by first | assumption | omega)) ?_
      exact Ends.sm (none_ q gq w)
    refine Ends.ct l4 (by decide +kernel) (by decide) (num q4 1 (lnQ u m p) l4 G4 t4 (by decide)) (fun v5 q5 l5 _ _ _ ⟨g5, ww⟩ => ?_)
    have G5 : Agr (rwM B) h q5 := G4.tr g5 (fun c j w => w)
    refine Ends.eq (b562_758 (n := n) (by (repeat' first | assumption | refine LX.setF _ _ ?_ (by decide +kernel) | refine LX.setS ?_ rfl | refine LX.setA ?_ (by first | assumption | omega))) (by first | assumption | omega)) ?_
    rcases ww with ⟨e, en, ev5, r5, b5⟩ | ⟨en, ev5⟩
    rotate_left
    · rw [ev5]
      exact Ends.b0 (fun _ => bad q5 _ _ G5 l5 (Or.inl (by rw [eL']; show (match nuS u m (lnQ u m p) 1 with | none => none | some e => _) = none; rw [en]))) (fun z => absurd rfl z)
    rw [ev5]
    have eB : lnS u m n p = if bdS n 9 (nsV u m (lnQ u m p)) = true then some (k, 9, 0, e) else none := by rw [eL']; show (match nuS u m (lnQ u m p) 1 with | none => none | some e => if bdS n 9 (nsV u m (lnQ u m p)) = true then some (k, 9, 0, e) else none) = _; rw [en]
    refine Ends.b0 (fun z => absurd z (by decide)) (fun _ => ?_)
    refine Ends.ct l5 (by decide +kernel) (by decide) (endl q5 e l5 G5 r5) (fun v6 q6 l6 _ _ _ ⟨g6, ww⟩ => ?_)
    have G6 : Agr (rwM B) h q6 := G5.tr g6 (fun c j w => Or.inl w)
    have b6 := b5.agr g6 (fun k w => by unfold atM at w; omega)
    refine Ends.eq (b562_765 (n := n) (by (repeat' first | assumption | refine LX.setF _ _ ?_ (by decide +kernel) | refine LX.setS ?_ rfl | refine LX.setA ?_ (by first | assumption | omega))) (by first | assumption | omega)) ?_
    rcases ww with ⟨q', en', ev6, r6⟩ | ⟨en', ev6⟩
    rotate_left
    · rw [ev6]
      refine Ends.b0 (fun _ => bad q6 _ _ G6 l6 ?_) (fun z => absurd rfl z)
      by_cases c : bdS n 9 (nsV u m (lnQ u m p)) = true
      · exact Or.inr ⟨_, _, _, _, by rw [eB, if_pos c], en'⟩
      · exact Or.inl (by rw [eB, if_neg c])
    rw [ev6]
    refine Ends.b0 (fun z => absurd z (by decide)) (fun _ => ?_)
    have x6 := xk G6
    have m6 := mk G6
    have wrong : bdS n 9 (nsV u m (lnQ u m p)) = false → (lnS u m n p = none ∨ ∃ k kd o e, lnS u m n p = some (k, kd, o, e) ∧ enS u m e = none) := fun w => Or.inl (by rw [eB, w]; rfl)
    rw [v681_d, show Int.toNat (0 : Int) = 0 from rfl, b6 0 (by decide)]
    refine Ends.g (by unfold q681; decide) ?_
    by_cases c0 : 1 ≤ nsV u m (lnQ u m p) 0 ∧ nsV u m (lnQ u m p) 0 ≤ 8
    rotate_left
    · rw [decide_eq_false c0]
      exact Ends.b1 (fun z => absurd rfl z) (fun _ => bad q6 _ _ G6 l6 (wrong (decide_eq_false c0)))
    rw [decide_eq_true c0]
    have ok : bdS n 9 (nsV u m (lnQ u m p)) = true := decide_eq_true c0
    refine Ends.b1 (fun _ => ?_) (fun z => absurd z (by decide))
    obtain ⟨w0, ew⟩ : ∃ t : Nat, nsV u m (lnQ u m p) 0 = (t : Int) := ⟨(nsV u m (lnQ u m p) 0).toNat, by omega⟩
    rw [ew]
    refine Ends.cv l6 (by decide +kernel) (c_shrinkM (s := ld k) (t := 13) l6 (by omega) hn0 hn rk.2.1 (by decide) (x6 k hk4).2 (r := w0) (by omega)) (fun q7 l7 _ _ _ ⟨g7, R, m7', hR⟩ => ?_)
    have m7 : MB B n q7 13 (shK n w0 (S k)) := m7'.congr (fun g hg => Bool.eq_iff_iff.mpr ((hR g hg).trans shK_iff.symm))
    have g7 := g7.sub (W' := fun c j => (wto3 B n 13 c j ∨ wto B n 16 (wN n) c j) ∨ wto B n (ld k) (wN n) c j) (fun c j w => Or.inl w)
    refine Ends.eq (b562_794 (n := n) (by (repeat' first | assumption | refine LX.setF _ _ ?_ (by decide +kernel) | refine LX.setS ?_ rfl | refine LX.setA ?_ (by first | assumption | omega))) (by first | assumption | omega)) ?_
    refine Ends.cv l7 (by decide +kernel) (c_copyM (s := 13) (t := ld k) l7 (by omega) hn (by decide) rk.2.1 m7) (fun q8 l8 _ _ _ ⟨g8_, m8⟩ => ?_)
    refine Ends.eq (b562_801 (n := n) (by (repeat' first | assumption | refine LX.setF _ _ ?_ (by decide +kernel) | refine LX.setS ?_ rfl | refine LX.setA ?_ (by first | assumption | omega))) (by first | assumption | omega)) ?_
    refine Ends.eq (b562_806 (n := n) (by (repeat' first | assumption | refine LX.setF _ _ ?_ (by decide +kernel) | refine LX.setS ?_ rfl | refine LX.setA ?_ (by first | assumption | omega))) (by first | assumption | omega)) ?_
    refine Ends.sm (some_ q6 q8 9 0 e q' _ _ G6 r6 (g7.tr (W := fun c j => (wto3 B n 13 c j ∨ wto B n 16 (wN n) c j) ∨ wto B n (ld k) (wN n) c j) g8_ (fun c j w => Or.inr w)) (fun c j w => ?_) (fun c j w => ?_) (fun i j h1 h2 h3 h4 w => ?_) m8 (by rw [eB, ok]; rfl) en' (by show shK n (nsV u m (lnQ u m p) 0).toNat (S k) = _; rw [ew]; rfl))
    · rcases w with (w | w) | w
      · exact wto3_ml (by decide) w
      · exact wto_ml (by decide) w
      · exact wto_ml rk.1 w
    · rcases w with (w | w) | w
      · have := wto3_c w; omega
      · have := w.1; omega
      · have := w.1; omega
    · rcases w with (w | w) | w
      · exact wto3_row h4 (by omega) (by omega) (by omega) w
      · exact wto_row h4 (Nat.le_refl _) (by omega) w
      · exact wto_row h4 (Nat.le_refl _) h2 w
  rw [e4, t93]
  have ekw : kwI u m (p + 3) = 10 := by unfold kwI; rw [t01, t11, t21, t31, t41, t51, t61, t71, t81, t91]; rfl
  exact Ends.b0 (fun _ => Ends.sm (none_ _ G3 (Or.inl (by rw [eL, ekw]; rfl)))) (fun z => absurd rfl z)
end MLINE
