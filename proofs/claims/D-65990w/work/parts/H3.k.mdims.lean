/-! L3: dimensions told (model) -/
noncomputable section MDM
variable {gv : Nat → Int} {B n d m : Nat} {h t : AH} {u : Nat → Int}
def mdmW (B D : Nat) : Nat → Nat → Prop := fun c k => (c = B + 149 ∧ (k = 0 ∨ 2 ≤ k ∧ k ≤ 11 ∨ k = 152)) ∨ (c = B + 192 ∧ k < 3) ∨ (c = B + 227 ∧ 8 * D ≤ k ∧ k < 8 * D + 8)
set_option maxHeartbeats 4000000 in
theorem c_dimension592 {D : Nat} (l : LX B n h) (hd : 26 ≤ d) (T : MTX gv B h) (h2 : hv h (B + 149) 2 = (m : Int)) (hm : m ≤ 8192) (hu : ∀ i, i < m → hv h (B + 150) i = u i) (ur : ∀ i, i < m → 0 ≤ u i ∧ u i < 256) (hD : hv h (B + 149) 152 = (D : Int)) (hD16 : D ≤ 16) :
    Vt 0 (cll PP (ev PP (gsF gv) B) d 592 [(2, rf (B + 149))] h) (fun x h' => Agr (mdmW B D) h h' ∧ hv h' (B + 149) 2 = 0 ∧ ((D = 16 ∧ x = 0 ∧ hv h' (B + 149) 0 = 1 ∧ hv h' (B + 149) 152 = (D : Int)) ∨ (D < 16 ∧ hv h' (B + 149) 0 = 0 ∧ ((∃ e, dmX u m e ∧ x = -1 - (e : Int) ∧ hv h' (B + 149) 152 = (D : Int)) ∨ (dmY u m ∧ x = (D : Int) ∧ hv h' (B + 149) 152 = ((D + 1 : Nat) : Int) ∧ ∀ k, k < 8 → hv h' (B + 227) (8 * D + k) = dmV u m k))))) := by
  have hb0 := l.2.2
  refine Vt.inq (D := 25) hd (Nat.le_of_ble_eq_true rfl) rfl (fun d hd Q K => ?_)
  refine Ends.eq (b592_0 l (by omega)) ?_
  have l1 : LX B n (hset h (B + 149) 11 (-1)) := LX.setF 149 11 l (by decide +kernel)
  have g1 : Agr (mdmW B D) h (hset h (B + 149) 11 (-1)) := Agr.rf.set (Or.inl ⟨rfl, Or.inr (Or.inl ⟨by decide, by decide⟩)⟩)
  refine Ends.cv l1 (by decide +kernel) (c_beginM (u := u) (m := m) l1 (by omega) (by rw [hv_set_ne (by omega)]; exact h2) hm (fun i hi => by rw [hv_set_ne (by omega)]; exact hu i hi) ur) (fun h3 l3 _ _ _ ⟨g3, S3, R3, z3⟩ => ?_)
  have G3 : Agr (mdmW B D) h h3 := g1.tr g3 (fun c k z => by unfold mdmW; omega)
  have D3 : hv h3 (B + 149) 152 = (D : Int) := by rw [g3.at _ _ (by omega), hv_set_ne (by omega)]; exact hD
  clear g1 g3
  refine Ends.eq (b592_9 l3 (by omega)) ?_
  rw [D3, ct1]
  by_cases z : (D : Int) = 16
  · rw [if_pos z]
    refine Ends.mbad l3 (by omega) (c := 1) (by decide) rfl ?_
    have l4 : LX B n (hset h3 (B + 149) 0 ((1 : Nat) : Int)) := LX.setF 149 0 l3 (by decide +kernel)
    exact Ends.eq (b592_27 l4 (by omega)) (Ends.b0 (fun y => absurd y (by decide)) (fun _ => Ends.sm (K _ _ ⟨G3.set (Or.inl ⟨rfl, Or.inl rfl⟩), by rw [hv_set_ne (by omega)]; exact z3, Or.inl ⟨by omega, rfl, hv_set_at .., by rw [hv_set_ne (by omega)]; exact D3⟩⟩)))
  rw [if_neg z]
  have D16 : D < 16 := by omega
  refine Ends.mok l3 (by omega) rfl ?_
  have l4 : LX B n (hset h3 (B + 149) 0 0) := LX.setF 149 0 l3 (by decide +kernel)
  have g4 : Agr (fun c k => c = B + 149 ∧ k = 0) h3 (hset h3 (B + 149) 0 0) := Agr.rf.set ⟨rfl, rfl⟩
  have v0 : hv (hset h3 (B + 149) 0 0) (B + 149) 0 = 0 := hv_set_at ..
  generalize hset h3 (B + 149) 0 0 = h4 at *
  -- what stands while the text is read
  obtain ⟨W, eW⟩ : ∃ W : Nat → Nat → Prop, W = fun c k => (c = B + 149 ∧ 4 ≤ k ∧ k ≤ 10) ∨ (c = B + 192 ∧ k < 3) ∨ (c = B + 227 ∧ 8 * D ≤ k ∧ k < 8 * D + 8) := ⟨_, rfl⟩
  have S4 : MgP B h4 m u := S3.agr g4 (by omega) (fun i _ => by omega)
  have R4 : MgT B h4 u m 0 := by
    obtain ⟨r1, r2, r3, r4, r5, r6⟩ := R3
    exact ⟨by rw [g4.at _ _ (by omega)]; exact r1, by rw [g4.at _ _ (by omega)]; exact r2, by rw [g4.at _ _ (by omega)]; exact r3, by rw [g4.at _ _ (by omega)]; exact r4, by rw [g4.at _ _ (by omega)]; exact r5, fun k => ⟨by rw [g4.at _ _ (by omega)]; exact (r6 k).1, by rw [g4.at _ _ (by omega)]; exact (r6 k).2⟩⟩
  have G4 : Agr (mdmW B D) h h4 := G3.tr g4 (fun c k z => Or.inl ⟨z.1, Or.inl z.2⟩)
  have T4 : MTX gv B h4 := T.agr G4 (fun c k hc z => by unfold mdmW at z; omega)
  have D4 : hv h4 (B + 149) 152 = (D : Int) := by rw [g4.at _ _ (by omega)]; exact D3
  have z4 : hv h4 (B + 149) 2 = 0 := by rw [g4.at _ _ (by omega)]; exact z3
  clear g4 R3 S3
  have st : ∀ {q : AH}, Agr W h4 q → MgP B q m u ∧ MTX gv B q ∧ hv q (B + 149) 152 = (D : Int) ∧ hv q (B + 149) 2 = 0 ∧ hv q (B + 149) 0 = 0 ∧ Agr (mdmW B D) h q := fun g => by
    rw [eW] at g
    exact ⟨S4.agr g (by omega) (fun i _ => by omega), T4.agr g (fun c k hc z => by omega), by rw [g.at _ _ (by omega)]; exact D4, by rw [g.at _ _ (by omega)]; exact z4, by rw [g.at _ _ (by omega)]; exact v0, G4.tr g (fun c k z => by unfold mdmW; omega)⟩
  have fail : ∀ (q : AH) (e : Nat), Agr W h4 q → dmX u m e → e ≤ m → Q ((0, (0, bop32 100 (-1) (e : Int))), q) := fun q e g de he => by
    obtain ⟨-, -, a3, a4, a5, a6⟩ := st g
    exact K _ _ ⟨a6, a4, Or.inr ⟨D16, a5, Or.inl ⟨e, de, sub32 (by omega) (by omega), a3⟩⟩⟩
  have ix : ∀ j : Nat, j < 8 → bop32 96 (bop32 104 (8 : Int) (D : Int)) (j : Int) = ((8 * D + j : Nat) : Int) := fun j hj => by rw [show bop32 104 (8 : Int) (D : Int) = ((8 * D : Nat) : Int) from mulNN (x := 8) (by omega), addNN (by omega)]
  have e8 : bop32 104 (8 : Int) (D : Int) = ((8 * D : Nat) : Int) := mulNN (x := 8) (by omega)
  -- one name and what is behind it
  have name : ∀ (k p : Nat) (q : AH) (u3 u4 : AV), k < 2 → p ≤ m → LX B n q → Agr W h4 q → MgT B q u m p → (¬ nmO u m (tkF u m p) 3 → dmX u m (tkF u m p)) → (nmO u m (tkF u m p) 3 → ¬ isSc u m (nen u m (tkF u m p) 3) → dmX u m (tkF u m (nen u m (tkF u m p) 3))) → (∀ q' x3, nmO u m (tkF u m p) 3 → isSc u m (nen u m (tkF u m p) 3) → nen u m (tkF u m p) 3 ≤ m → LX B n q' → Agr W h4 q' → (∀ j, j < 3 → hv q' (B + 227) (8 * D + 3 * k + j) = nbV u m (nst u m (tkF u m p) j)) → (∀ j, j < 8 → (j < 3 * k ∨ 3 * k + 3 ≤ j) → hv q' (B + 227) (8 * D + j) = hv q (B + 227) (8 * D + j)) → MgT B q' u m (tkT u m (nen u m (tkF u m p) 3)) → Ends (ev PP (gsF gv) B d 592 42 [(2, rf (B + 149)), (0, ((8 * D : Nat) : Int)), (0, ((k + 1 : Nat) : Int)), (0, x3), (0, ((3 : Nat) : Int))] [] q') Q) → Ends (ev PP (gsF gv) B d 592 42 [(2, rf (B + 149)), (0, ((8 * D : Nat) : Int)), (0, (k : Int)), u3, u4] [] q) Q := by
    intro k p q u3 u4 hk hp lq g R x1 x2 kn
    obtain ⟨Sq, Tq, -⟩ := st g
    have fl := tkF_le (u := u) hp
    refine Ends.eq (b592_42 lq (by omega)) (Ends.b3 (fun z => by omega) (fun _ => ?_))
    refine Ends.ct lq (by decide +kernel) (by decide) (c_readName794 (p := tkF u m p) (K := 3) lq (by omega) Sq R.2.1 fl (by decide)) (fun x h5 l5 _ _ _ ⟨g5, r5⟩ => ?_)
    have G5 : Agr W h4 h5 := g.tr g5 (fun c k z => by rw [eW]; unfold rnW mgW at z; omega)
    refine Ends.eq (b592_52 l5 (by omega)) ?_
    rcases r5 with ⟨o, ex, R5, nm⟩ | ⟨o, ex⟩
    rotate_left
    · rw [ex]
      exact Ends.b2 (fun z => by omega) (fun _ => Ends.sm (fail h5 _ G5 (x1 o) fl))
    rw [ex]
    obtain ⟨n1, n2⟩ := nen_le o (by decide) fl
    refine Ends.b2 (fun _ => ?_) (fun z => absurd z (by decide))
    have e3 : bop32 96 ((8 * D : Nat) : Int) (bop32 104 (3 : Int) (k : Int)) = ((8 * D + 3 * k : Nat) : Int) := by rw [show bop32 104 (3 : Int) (k : Int) = ((3 * k : Nat) : Int) from mulNN (x := 3) (by omega), addNN (by omega)]
    have copy : ∀ (r j : Nat) (q' : AH), j + r = 3 → LX B n q' → Agr (fun c i => c = B + 227 ∧ 8 * D + 3 * k ≤ i ∧ i < 8 * D + 3 * k + 3) h5 q' → (∀ i, i < j → hv q' (B + 227) (8 * D + 3 * k + i) = nbV u m (nst u m (tkF u m p) i)) → Ends (ev PP (gsF gv) B d 592 64 [(2, rf (B + 149)), (0, ((8 * D : Nat) : Int)), (0, (k : Int)), (0, -1), (0, (j : Int))] [] q') Q := by
      intro r
      induction r with
      | zero =>
        intro j q' e lq' g' I
        obtain rfl : j = 3 := by omega
        have G' : Agr W h4 q' := G5.tr g' (fun c i z => by rw [eW]; omega)
        obtain ⟨S', T', -⟩ := st G'
        have R' : MgT B q' u m (nen u m (tkF u m p) 3) := by
          obtain ⟨r1, r2, r3, r4, r5, r6⟩ := R5
          exact ⟨by rw [g'.at _ _ (by omega)]; exact r1, by rw [g'.at _ _ (by omega)]; exact r2, by rw [g'.at _ _ (by omega)]; exact r3, by rw [g'.at _ _ (by omega)]; exact r4, by rw [g'.at _ _ (by omega)]; exact r5, fun k => ⟨by rw [g'.at _ _ (by omega)]; exact (r6 k).1, by rw [g'.at _ _ (by omega)]; exact (r6 k).2⟩⟩
        refine Ends.eq (b592_64 lq' (by omega)) (Ends.b3 (fun _ => ?_) (fun z => absurd z (by decide)))
        refine Ends.ct lq' (by decide +kernel) (by decide) (c_is1 lq' (by omega) S' T' R' n2 12 59 (by decide) (by decide) (by decide)) (fun v h6 l6 _ _ _ ⟨e6, r6⟩ => ?_)
        subst e6
        refine Ends.eq (b592_103 l6 (by omega)) ?_
        rcases r6 with ⟨sc, ev'⟩ | ⟨sc, ev'⟩
        · rw [ev']
          refine Ends.b1 (fun _ => ?_) (fun z => absurd z (by decide))
          have tk := tk_le (u := u) n2
          refine Ends.cv l6 (by decide +kernel) (c_nextM l6 (by omega) S' R'.1 tk.2.1) (fun h7 l7 _ _ _ ⟨g7, R7⟩ => ?_)
          refine Ends.eq (b592_117 l7 (by omega)) ?_
          rw [w_succ (by omega)]
          refine kn h7 (-1) o sc n2 l7 (G'.tr g7 (fun c i z => by rw [eW]; unfold mgW at z; omega)) (fun j hj => ?_) (fun j hj hj2 => ?_) R7
          · rw [g7.at _ _ (by unfold mgW; omega)]; exact I j hj
          · rw [g7.at _ _ (by unfold mgW; omega), g'.at _ _ (by omega), g5.at _ _ (by unfold rnW mgW; omega)]
        · rw [ev']
          refine Ends.b1 (fun z => absurd rfl z) (fun _ => ?_)
          rw [R'.2.1]
          exact Ends.sm (fail h6 _ G' (x2 o sc) (tkF_le n2))
      | succ r ih =>
        intro j q' e lq' g' I
        refine Ends.eq (b592_64 lq' (by omega)) (Ends.b3 (fun z => by omega) (fun _ => ?_))
        rw [e3, show bop32 96 ((8 * D + 3 * k : Nat) : Int) (j : Int) = ((8 * D + 3 * k + j : Nat) : Int) from addNN (by omega), tn, tn, an0, w_succ (i := j) (by omega), g'.at (B + 192) j (by omega), nm j (by omega)]
        refine Ends.g ⟨by omega, by omega⟩ (Ends.g ⟨by omega, by omega⟩ ?_)
        refine ih (j + 1) _ (by omega) (LX.setS lq' rfl) (g'.set ⟨rfl, by omega, by omega⟩) (fun i hi => ?_)
        by_cases y : i = j
        · rw [y, hv_set_at]
        · rw [hv_set_ne (by omega)]; exact I i (by omega)
    exact copy 3 0 h5 rfl l5 Agr.rf (fun i hi => absurd hi (Nat.not_lt_zero i))
  -- one tolerance
  have tol : ∀ (k p : Nat) (q : AH) (u3 u4 : AV), 6 ≤ k → k < 8 → p ≤ m → LX B n q → Agr W h4 q → MgT B q u m p → (¬ tlO u m p → dmX u m (tkF u m p)) → (∀ q', tlO u m p → LX B n q' → Agr W h4 q' → hv q' (B + 227) (8 * D + k) = nAb u m (tkF u m p) → (∀ j, j < 8 → j ≠ k → hv q' (B + 227) (8 * D + j) = hv q (B + 227) (8 * D + j)) → MgT B q' u m (tkT u m p) → Ends (ev PP (gsF gv) B d 592 197 [(2, rf (B + 149)), (0, ((8 * D : Nat) : Int)), (0, (k : Int)), u3, u4] [] q') Q) → Ends (ev PP (gsF gv) B d 592 126 [(2, rf (B + 149)), (0, ((8 * D : Nat) : Int)), (0, (k : Int)), u3, u4] [] q) Q := by
    intro k p q u3 u4 hk6 hk8 hp lq g R x1 kn
    obtain ⟨Sq, Tq, -⟩ := st g
    have fl := tkF_le (u := u) hp
    have bad : ¬ tlO u m p → Ends (ev PP (gsF gv) B d 592 173 [(2, rf (B + 149)), (0, ((8 * D : Nat) : Int)), (0, (k : Int)), u3, u4] [] q) Q := fun o => by
      refine Ends.eq (b592_173 lq (by omega)) ?_
      rw [R.2.1]
      exact Ends.sm (fail q _ g (x1 o) fl)
    refine Ends.eq (b592_126 lq (by omega)) (Ends.b3 (fun z => by omega) (fun _ => ?_))
    rw [R.2.2.1]
    refine Ends.b1 (fun z => bad (fun y => z (mkd_2.mpr y.1))) (fun z1 => ?_)
    have k2 := mkd_2.mp z1
    obtain ⟨w9, w10⟩ := R.2.2.2.2.2 k2
    rw [w9, w10, R.2.1]
    have dg := tk_num k2
    refine Ends.b1 (fun z => bad (fun y => z (by rw [y.2.1]; exact cmp64_eq))) (fun z2 => ?_)
    have b1 := cmp64_z.mp z2
    refine Ends.b4 (fun z => bad (fun y => ?_)) (fun z3 => ?_)
    · rcases (by have := y.2.2; omega : nAb u m (tkF u m p) < 200 ∨ nAb u m (tkF u m p) = 200) with w | w
      · rw [cmp64_lt w] at z; exact absurd z (by decide)
      · rw [w, cmp64_eq] at z; exact absurd z (by decide)
    have le : nAb u m (tkF u m p) ≤ 200 := by
      apply Classical.byContradiction
      intro y
      rw [cmp64_gt (show (200 : Int) < nAb u m (tkF u m p) by omega)] at z3
      exact absurd z3 (by decide)
    have nn := nAb_b dg.2
    have dr := isD_r dg.1
    rw [Sq.by]
    refine Ends.g (Sq.q _) (Ends.b1 (fun _ => ?_) (fun z => by omega))
    have lt := tk_le (u := u) (m := m) hp
    have a2 : bop32 96 ((8 * D : Nat) : Int) (k : Int) = ((8 * D + k : Nat) : Int) := addNN (by omega)
    rw [a2, tn, an0, show uop 3 (nAb u m (tkF u m p)) = nAb u m (tkF u m p) from (uop3 _).trans (w32_id ⟨by omega, by omega⟩)]
    clear a2
    refine Ends.g ⟨by omega, by omega⟩ ?_
    have l5 : LX B n (hset q (B + 227) (8 * D + k) (nAb u m (tkF u m p))) := LX.setS lq rfl
    have g5 : Agr (fun c i => c = B + 227 ∧ i = 8 * D + k) q (hset q (B + 227) (8 * D + k) (nAb u m (tkF u m p))) := Agr.rf.set ⟨rfl, rfl⟩
    have v5 : hv (hset q (B + 227) (8 * D + k) (nAb u m (tkF u m p))) (B + 227) (8 * D + k) = nAb u m (tkF u m p) := hv_set_at ..
    generalize hset q (B + 227) (8 * D + k) (nAb u m (tkF u m p)) = h5 at *
    have G5 : Agr W h4 h5 := g.tr g5 (fun c i z => by rw [eW]; omega)
    refine Ends.cv l5 (by decide +kernel) (c_nextM l5 (by omega) (st G5).1 (p := tkT u m p) (by rw [g5.at _ _ (by omega)]; exact R.1) lt.2.1) (fun h6 l6 _ _ _ ⟨g6, R6⟩ => ?_)
    refine kn h6 ⟨k2, b1, le⟩ l6 (G5.tr g6 (fun c i z => by rw [eW]; unfold mgW at z; omega)) ?_ (fun j hj hj2 => ?_) R6
    · rw [g6.at _ _ (by unfold mgW; omega)]; exact v5
    · rw [g6.at _ _ (by unfold mgW; omega), g5.at _ _ (by omega)]
  refine Ends.eq (b592_27 l4 (by omega)) (Ends.b0 (fun _ => ?_) (fun z => absurd rfl z))
  rw [D4, e8]
  refine name 0 0 h4 _ _ (by decide) (Nat.zero_le _) l4 Agr.rf R4 (fun o => Or.inl ⟨o, rfl⟩) (fun o s => Or.inr ⟨o, Or.inl ⟨s, rfl⟩⟩) (fun q1 x3 o1 s1 p1 lq1 G1 n1 _ R1 => ?_)
  have p2 : dp2 u m ≤ m := (tk_le (u := u) (m := m) p1).2.1
  refine name 1 (dp2 u m) q1 _ _ (by decide) p2 lq1 G1 R1 (fun o => Or.inr ⟨o1, Or.inr ⟨s1, Or.inl ⟨o, rfl⟩⟩⟩) (fun o s => Or.inr ⟨o1, Or.inr ⟨s1, Or.inr ⟨o, Or.inl ⟨s, rfl⟩⟩⟩⟩) (fun q2 x3 o2 s3 p3 lq2 G2 n2 k2 R2 => ?_)
  have p4 : dp4 u m ≤ m := (tk_le (u := u) (m := m) p3).2.1
  refine Ends.eq (b592_42 lq2 (by omega)) (Ends.b3 (fun _ => ?_) (fun z => absurd z (by decide)))
  refine tol 6 (dp4 u m) q2 _ _ (by decide) (by decide) p4 lq2 G2 R2 (fun o => Or.inr ⟨o1, Or.inr ⟨s1, Or.inr ⟨o2, Or.inr ⟨s3, Or.inl ⟨o, rfl⟩⟩⟩⟩⟩) (fun q3 o4 lq3 G3' n3 k3 R3' => ?_)
  have p5 : dp5 u m ≤ m := (tk_le (u := u) (m := m) p4).2.1
  obtain ⟨S3', T3', -⟩ := st G3'
  refine Ends.eq (b592_197 lq3 (by omega)) (Ends.b1 (fun z => absurd rfl z) (fun _ => ?_))
  refine Ends.ct lq3 (by decide +kernel) (by decide) (c_is1 lq3 (by omega) S3' T3' R3' p5 12 59 (by decide) (by decide) (by decide)) (fun v q4 lq4 _ _ _ ⟨e4, r4⟩ => ?_)
  subst e4
  refine Ends.eq (b592_210 lq4 (by omega)) ?_
  rcases r4 with ⟨s5, ev'⟩ | ⟨s5, ev'⟩
  rotate_left
  · rw [ev']
    refine Ends.b1 (fun z => absurd rfl z) (fun _ => ?_)
    rw [R3'.2.1]
    exact Ends.sm (fail q4 _ G3' (Or.inr ⟨o1, Or.inr ⟨s1, Or.inr ⟨o2, Or.inr ⟨s3, Or.inr ⟨o4, Or.inl ⟨s5, rfl⟩⟩⟩⟩⟩⟩) (tkF_le p5))
  rw [ev']
  refine Ends.b1 (fun _ => ?_) (fun z => absurd z (by decide))
  refine Ends.eq (b592_220 lq4 (by omega)) (Ends.b1 (fun z => absurd rfl z) (fun _ => ?_))
  have p6 : dp6 u m ≤ m := (tk_le (u := u) (m := m) p5).2.1
  refine Ends.cv lq4 (by decide +kernel) (c_nextM lq4 (by omega) S3' R3'.1 p6) (fun q5 lq5 _ _ _ ⟨g5, R5⟩ => ?_)
  have G5 : Agr W h4 q5 := G3'.tr g5 (fun c i z => by rw [eW]; unfold mgW at z; omega)
  refine Ends.eq (b592_230 lq5 (by omega)) ?_
  rw [w_succ (i := 6) (by decide)]
  refine tol 7 (dp6 u m) q5 _ _ (by decide) (by decide) p6 lq5 G5 R5 (fun o => Or.inr ⟨o1, Or.inr ⟨s1, Or.inr ⟨o2, Or.inr ⟨s3, Or.inr ⟨o4, Or.inr ⟨s5, Or.inl ⟨o, rfl⟩⟩⟩⟩⟩⟩⟩) (fun q6 o6 lq6 G6 n6 k6 R6 => ?_)
  have p7 : dp7 u m ≤ m := (tk_le (u := u) (m := m) p6).2.1
  refine Ends.eq (b592_197 lq6 (by omega)) (Ends.b1 (fun _ => ?_) (fun z => absurd z (by decide)))
  refine Ends.eq (b592_220 lq6 (by omega)) (Ends.b1 (fun _ => ?_) (fun z => absurd z (by decide)))
  refine Ends.eq (b592_230 lq6 (by omega)) ?_
  rw [w_succ (i := 7) (by decide)]
  refine Ends.eq (b592_126 lq6 (by omega)) (Ends.b3 (fun _ => ?_) (fun z => absurd z (by decide)))
  rw [R6.2.2.1]
  refine Ends.b0 (fun k0 => ?_) (fun k0 => ?_)
  rotate_left
  · rw [R6.2.1]
    exact Ends.sm (fail q6 _ G6 (Or.inr ⟨o1, Or.inr ⟨s1, Or.inr ⟨o2, Or.inr ⟨s3, Or.inr ⟨o4, Or.inr ⟨s5, Or.inr ⟨o6, fun y => k0 (mkd_0.mpr y), rfl⟩⟩⟩⟩⟩⟩⟩) (tkF_le p7))
  obtain ⟨-, -, a3, a4, a5, a6⟩ := st G6
  rw [a3, show bop32 96 (D : Int) (1 : Int) = ((D + 1 : Nat) : Int) from addNN (y := 1) (by omega), show bop32 100 ((D + 1 : Nat) : Int) (1 : Int) = ((D : Nat) : Int) from by rw [sub32 (by omega) (by omega)]; omega]
  refine Ends.sm (K _ _ ⟨a6.set (Or.inl ⟨rfl, Or.inr (Or.inr rfl)⟩), by rw [hv_set_ne (by omega)]; exact a4, Or.inr ⟨D16, by rw [hv_set_ne (by omega)]; exact a5, Or.inr ⟨⟨o1, s1, o2, s3, o4, s5, o6, mkd_0.mp k0⟩, rfl, hv_set_at .., fun k hk => ?_⟩⟩⟩)
  rw [hv_set_ne (by omega)]
  have c5 : ∀ j, j < 8 → hv q5 (B + 227) (8 * D + j) = hv q4 (B + 227) (8 * D + j) := fun j hj => g5.at _ _ (by unfold mgW; omega)
  unfold dmV
  by_cases y3 : k < 3
  · rw [if_pos y3, k6 k hk (by omega), c5 k hk, k3 k hk (by omega), k2 k hk (by omega)]
    have := n1 k y3
    rw [show 8 * D + 3 * 0 + k = 8 * D + k by omega] at this; exact this
  rw [if_neg y3]
  by_cases y6 : k < 6
  · rw [if_pos y6, k6 k hk (by omega), c5 k hk, k3 k hk (by omega)]
    have := n2 (k - 3) (by omega)
    rw [show 8 * D + 3 * 1 + (k - 3) = 8 * D + k by omega] at this; exact this
  rw [if_neg y6]
  by_cases y7 : k = 6
  · rw [if_pos y7, k6 k hk (by omega), c5 k hk, y7]; exact n3
  · rw [if_neg y7, show k = 7 by omega]; exact n6
end MDM
