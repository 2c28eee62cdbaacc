/-! L3: the greatest piece of a solid: the walk (model) -/
def gtW (B n t : Nat) : Nat → Nat → Prop := fun c k => tpW B n 13 14 15 c k ∨ wto B n t (wN n) c k ∨ scW B c k
/-- what holds when places below s0 are done -/
def gtI (B n t : Nat) (S T0 : Nat → Bool) (q : AH) (s0 best : Nat) : Prop := ∃ (R T Tp : Nat → Bool) (lo : Nat) (hh : Int), MB B n q 13 R ∧ MB B n q 14 Tp ∧ MB B n q 15 (fun _ => false) ∧ hv q (B + 149) 90 = (lo : Int) ∧ hv q (B + 149) 91 = hh ∧ (lo : Int) ≤ hh + 1 ∧ hh < (wN n : Nat) ∧ (∀ x, x < gN n → Tp x = true → lo ≤ x / 64 ∧ ((x / 64 : Nat) : Int) ≤ hh) ∧ MB B n q t T ∧ grR n S s0 R ∧ grB n S s0 best T T0 ∧ best ≤ gN n
section GREATW
variable {gv : Nat → Int} {B n d s t : Nat} {h : AH} {S T0 : Nat → Bool}
theorem gtI.sc {q q1 : AH} {s0 best : Nat} (i : gtI B n t S T0 q s0 best) (g : Agr (scW B) q q1) : gtI B n t S T0 q1 s0 best := by
  obtain ⟨R, T, Tp, lo, hh, a1, a2, a3, a4, a5, a6, a7, a8, a9, b1, b2, b3⟩ := i
  exact ⟨R, T, Tp, lo, hh, a1.agr g (fun k hk w => by unfold scW at w; omega), a2.agr g (fun k hk w => by unfold scW at w; omega), a3.agr g (fun k hk w => by unfold scW at w; omega), by rw [g.at _ _ (by unfold scW; omega)]; exact a4, by rw [g.at _ _ (by unfold scW; omega)]; exact a5, a6, a7, a8, a9.agr g (fun k hk w => by unfold scW at w; omega), b1, b2, b3⟩
theorem scG_ok {c : Nat} (hc : c < rw3 (8 * n) (8 * n) 0 0) (hv_ : scV (8 * n) c) : ∃ g : Nat, g < gN n ∧ scG n c = (g : Int) := by
  have h3 : rw3 (8 * n) (8 * n) 0 0 = 8 * n * (8 * n) * (8 * n) := by unfold rw3; simp
  rw [h3] at hc
  have n0 : 0 < 8 * n := by
    rcases Nat.eq_zero_or_pos (8 * n) with e | e
    · rw [e] at hc; simp at hc
    · exact e
  have x1 := Nat.mod_lt c n0
  have y1 := Nat.mod_lt (c / (8 * n)) n0
  have z1 : c / (8 * n * (8 * n)) < 8 * n := Nat.div_lt_of_lt_mul hc
  unfold scV at hv_
  unfold scG gAt
  generalize c % (8 * n) = x at *
  generalize c / (8 * n) % (8 * n) = y at *
  generalize c / (8 * n * (8 * n)) = z at *
  rw [if_neg (by omega), tn, tn, tn]
  exact ⟨_, gI_lt (by omega) (by omega) (by omega) hv_, rfl⟩
theorem c_greatest666 (l : LX B n h) (hd : 16 ≤ d) (hn0 : 0 < n) (hn : n ≤ 52) (hs : s < 13) (ht : t < 13 ∨ (16 ≤ t ∧ t < 19)) (m : TbM B h) (b : MB B n h s S) (bt : MB B n h t T0) :
    Vd (cll PP (ev PP (gsF gv) B) d 666 [(2, rf (B + 149)), (0, (s : Int)), (0, (t : Int))] h) (fun h' => Agr (gtW B n t) h h' ∧ ∃ T best, MB B n h' t T ∧ grB n S (rw3 (8 * n) (8 * n) 0 0) best T T0) := by
  have ht19 : t < 19 := by omega
  have n13 : 13 ≠ t := by omega
  have n14 : 14 ≠ t := by omega
  have n15 : 15 ≠ t := by omega
  have hG := gN_le hn
  have gle := gN_le2 hn
  refine Vd.inq (D := 15) hd (Nat.le_of_ble_eq_true rfl) rfl (fun d hd P K => ?_)
  refine Ends.eq (b666_0 (n := n) (by (repeat' first | assumption | refine LX.setF _ _ ?_ (by decide +kernel) | refine LX.setS ?_ rfl | refine LX.setA ?_ (by first | assumption | omega))) (by first | assumption | omega)) ?_
  refine Ends.cv l (by decide +kernel) (c_copyM (t := 13) l (by omega) hn (by omega) (by decide) b) (fun h1 l1 _ _ _ ⟨g1, b1⟩ => ?_)
  refine Ends.eq (b666_9 (n := n) (by (repeat' first | assumption | refine LX.setF _ _ ?_ (by decide +kernel) | refine LX.setS ?_ rfl | refine LX.setA ?_ (by first | assumption | omega))) (by first | assumption | omega)) ?_
  refine Ends.cv l1 (by decide +kernel) (c_beginPieces (t := 14) (u := 15) l1 (by omega) hn (by decide) (by decide) (by decide)) (fun h2 l2 _ _ _ ⟨g2, b14, b15, f0, f1⟩ => ?_)
  refine Ends.eq (b666_17 (n := n) (by (repeat' first | assumption | refine LX.setF _ _ ?_ (by decide +kernel) | refine LX.setS ?_ rfl | refine LX.setA ?_ (by first | assumption | omega))) (by first | assumption | omega)) ?_
  have A2 : Agr (gtW B n t) h h2 := (g1.sub (fun c k z => Or.inl (Or.inl z))).tr g2 (fun c k z => by
    rcases z with z | z | z
    · exact Or.inl (Or.inr (Or.inl z))
    · exact Or.inl (Or.inr (Or.inr (Or.inl z)))
    · exact Or.inl (Or.inr (Or.inr (Or.inr ⟨z.1, z.2.1, by omega⟩))))
  have b13 : MB B n h2 13 S := b1.agr g2 (fun k hk z => by
    rcases z with z | z | z
    · exact wto_row hk (Nat.le_refl _) (by decide) z
    · exact wto_row hk (Nat.le_refl _) (by decide) z
    · omega)
  have bt2 : MB B n h2 t T0 := (bt.agr g1 (fun k hk z => wto_row hk (Nat.le_refl _) (by omega) z)).agr g2 (fun k hk z => by
    rcases z with z | z | z
    · exact wto_row hk (Nat.le_refl _) (by omega) z
    · exact wto_row hk (Nat.le_refl _) (by omega) z
    · omega)
  refine Ends.cv l2 (by decide +kernel) (c_beginScan556 l2 (by omega) hn0) (fun h3 l3 _ _ _ ⟨g3, sc3⟩ => ?_)
  have A3 : Agr (gtW B n t) h h3 := A2.tr g3 (fun c k z => Or.inr (Or.inr z))
  have mk : ∀ {q : AH}, Agr (gtW B n t) h q → TbM B q := fun g => m.agr g (fun c k a1 a2 a3 w => by unfold gtW tpW wto scW at w; omega)
  have i2 : gtI B n t S T0 h2 0 0 := ⟨S, T0, fun _ => false, 0, -1, b13, b14, b15, f0, f1, by decide, by omega, fun x _ w => absurd w Bool.false_ne_true, bt2, fun x hx => ⟨fun w => ⟨w, fun c g hc => absurd hc (by omega)⟩, fun w => w.1⟩, Or.inl ⟨rfl, fun _ _ => rfl, fun c g hc => absurd hc (by omega)⟩, Nat.zero_le _⟩
  have i3 := i2.sc g3
  clear i2 bt2 b13 b14 b15 f0 f1 A2 g1 g2 g3
  obtain ⟨NN, eNN⟩ : ∃ k, k = rw3 (8 * n) (8 * n) 0 0 := ⟨_, rfl⟩
  rw [← eNN] at K
  have main : ∀ (f s0 best : Nat) (q : AH), NN ≤ f + s0 → s0 ≤ NN → LX B n q → Agr (gtW B n t) h q → gtI B n t S T0 q s0 best → ∀ (v : Int) (q1 : AH) (u5 : AV), LX B n q1 → Agr (scW B) q q1 → ((∃ c, s0 ≤ c ∧ c < NN ∧ scV (8 * n) c ∧ (∀ c', s0 ≤ c' → c' < c → ¬ scV (8 * n) c') ∧ v = scG n c ∧ scN B (8 * n) q1 (c + 1)) ∨ ((∀ c', s0 ≤ c' → c' < NN → ¬ scV (8 * n) c') ∧ v = -1 ∧ scN B (8 * n) q1 NN)) → Ends (ev PP (gsF gv) B d 666 27 [(2, rf (B + 149)), (0, (s : Int)), (0, (t : Int)), (0, (best : Int)), (0, v), u5] [] q1) P := by
    intro f
    induction f with
    | zero =>
      intro s0 best q hf hs0 lq gq i v q1 u5 l1 g1 w
      have i1 := i.sc g1
      have gq1 := gq.tr g1 (fun c k z => Or.inr (Or.inr z))
      rcases w with ⟨c, w1, w2, _⟩ | ⟨w1, w2, w3⟩
      · omega
      · rw [w2]
        refine Ends.eq (b666_27 l1 (by omega)) ?_
        obtain ⟨R, T, Tp, lo, hh, a1, a2, a3, a4, a5, a6, a7, a8, a9, b1, b2, b3⟩ := i1
        exact Ends.b2 (fun _ => Ends.sm (K _ ⟨gq1, T, best, a9, b2.skip hs0 (fun c g h1 h2 i => absurd i.1 (w1 c h1 h2))⟩)) (fun z => absurd z (by decide))
    | succ f ih =>
      intro s0 best q hf hs0 lq gq i v q1 u5 l1 g1 w
      have i1 := i.sc g1
      have gq1 := gq.tr g1 (fun c k z => Or.inr (Or.inr z))
      rcases w with ⟨c, w1, w2, w3, w4, w5, w6⟩ | ⟨w1, w2, w3⟩
      rotate_left
      · rw [w2]
        refine Ends.eq (b666_27 l1 (by omega)) ?_
        obtain ⟨R, T, Tp, lo, hh, a1, a2, a3, a4, a5, a6, a7, a8, a9, b1, b2, b3⟩ := i1
        exact Ends.b2 (fun _ => Ends.sm (K _ ⟨gq1, T, best, a9, b2.skip hs0 (fun c g h1 h2 i => absurd i.1 (w1 c h1 h2))⟩)) (fun z => absurd z (by decide))
      obtain ⟨g, hg, eg⟩ := scG_ok (by rw [← eNN]; exact w2) w3
      rw [w5, eg]
      -- the next place
      have go : ∀ (bst : Nat) (q2 : AH) (u5 : AV), LX B n q2 → Agr (gtW B n t) h q2 → gtI B n t S T0 q2 (c + 1) bst → scN B (8 * n) q2 (c + 1) → Ends (ev PP (gsF gv) B d 666 86 [(2, rf (B + 149)), (0, (s : Int)), (0, (t : Int)), (0, (bst : Int)), (0, (g : Int)), u5] [] q2) P := fun bst q2 u5 l2 g2 i2 sc => by
        refine Ends.eq (b666_86 l2 (by omega)) ?_
        refine Ends.ct l2 (by decide +kernel) (by decide) (c_scan812 l2 (by omega) hn0 hn (mk g2) sc) (fun v' q3 l3 _ _ _ ⟨g3, w'⟩ => ?_)
        rw [← eNN] at w'
        refine Ends.eq (b666_90 l3 (by omega)) ?_
        exact ih (c + 1) bst q2 (by omega) (by omega) l2 g2 i2 v' q3 _ l3 g3 w'
      obtain ⟨R, T, Tp, lo, hh, a1, a2, a3, a4, a5, a6, a7, a8, a9, b1, b2, b3⟩ := i1
      have none_ : ∀ c' g', s0 ≤ c' → c' < c → scI n S c' g' → ∃ c1 g1, c1 < s0 ∧ scI n S c1 g1 ∧ Rch n S g1 g' := fun c' g' h1 h2 i => absurd i.1 (w4 c' h1 h2)
      have rc := b1.skip w1 none_
      have bc := b2.skip w1 none_
      obtain ⟨k1, k2⟩ := has_is a1 (by decide) hn hg
      have k1 : q669 B n q1 13 (g : Int) := k1
      have k2 : v669 B n q1 13 (g : Int) = if R g = true then 1 else 0 := k2
      refine Ends.eq (b666_27 l1 (by omega)) ?_
      rw [k2]
      refine Ends.b2 (fun z => absurd z (by omega)) (fun _ => Ends.g k1 ?_)
      cases hR : R g
      · rw [if_neg Bool.false_ne_true]
        refine Ends.b1 (fun z => absurd rfl z) (fun _ => ?_)
        have no : ∀ c' g', c ≤ c' → c' < c + 1 → scI n S c' g' → ∃ c1 g1, c1 < c ∧ scI n S c1 g1 ∧ Rch n S g1 g' := fun c' g' h1 h2 i => by
          obtain rfl : c' = c := by omega
          have e : g' = g := Int.ofNat.inj (i.2.1.symm.trans eg)
          rw [e] at i ⊢
          apply Classical.byContradiction
          intro z
          have := (rc g hg).mpr ⟨i.2.2.2, fun c1 g1 q1 q2 q3 => z ⟨c1, g1, q1, q2, q3⟩⟩
          rw [hR] at this
          exact absurd this (by decide)
        exact go best q1 _ l1 gq1 ⟨R, T, Tp, lo, hh, a1, a2, a3, a4, a5, a6, a7, a8, a9, rc.skip (Nat.le_succ c) no, bc.skip (Nat.le_succ c) no, b3⟩ w6
      · rw [if_pos rfl]
        refine Ends.b1 (fun _ => ?_) (fun z => absurd z (by decide))
        have iS : scI n S c g := ⟨w3, eg, hg, ((rc g hg).mp hR).1⟩
        refine Ends.ct l1 (by decide +kernel) (by decide) (c_takePiece (s := 13) (t := 14) (u := 15) l1 (by omega) hn0 hn (by decide) (by decide) (by decide) (by decide) (by decide) (by decide) (mk gq1) a1 a2 a3 a4 a5 a6 a7 a8 hg hR) (fun r h5 l5 _ _ _ ⟨g5, Pc, lo5, hi5, bd, p1, p2, p3, p4, p5, p6, p7, p8, p9, _, _, _, er⟩ => ?_)
        have G5 := gq1.tr g5 (fun c k z => Or.inl z)
        have sc5 : scN B (8 * n) h5 (c + 1) := scN_agr w6 g5 (fun k h1 h2 z => by unfold tpW wto at z; omega)
        have t5 : MB B n h5 t T := a9.agr g5 (fun k hk z => by
          rcases z with z | z | z | z
          · exact wto_row hk (Nat.le_refl _) (by omega) z
          · exact wto_row hk (Nat.le_refl _) (by omega) z
          · exact wto_row hk (Nat.le_refl _) (by omega) z
          · omega)
        have cle := cntN_le Pc (gN n)
        have rr := rc.take iS hR p4
        obtain ⟨x1, x2⟩ := bc.take rc iS hR p4
        rw [er]
        refine Ends.eq (b666_58 l5 (by omega)) ?_
        refine Ends.b5 (fun z => ?_) (fun z => ?_)
        · refine Ends.eq (b666_73 l5 (by omega)) ?_
          rw [ct5, if_neg (by omega)]
          exact go best h5 _ l5 G5 ⟨_, T, Pc, lo5, hi5, p1, p2, p3, p5, p6, by omega, by omega, fun x hx w => by have := p9 x hx w; omega, t5, rr, x1 (by omega), b3⟩ sc5
        · refine Ends.cv l5 (by decide +kernel) (c_copyM (s := 14) (t := t) l5 (by omega) hn (by decide) ht19 p2) (fun h6 l6 _ _ _ ⟨g6, c6⟩ => ?_)
          have G6 := G5.tr g6 (fun c k z => Or.inr (Or.inl z))
          have row : ∀ {k : Nat} {X : Nat → Bool}, k ≠ t → MB B n h5 k X → MB B n h6 k X := fun hk x => x.agr g6 (fun j hj z => wto_row hj (Nat.le_refl _) hk z)
          refine Ends.eq (b666_73 l6 (by omega)) ?_
          rw [ct5, if_pos z]
          exact go _ h6 _ l6 G6 ⟨_, Pc, Pc, lo5, hi5, row n13 p1, row n14 p2, row n15 p3, by rw [g6.at _ _ (by unfold wto; omega)]; exact p5, by rw [g6.at _ _ (by unfold wto; omega)]; exact p6, by omega, by omega, fun x hx w => by have := p9 x hx w; omega, c6, rr, x2 (by omega), cle⟩ (scN_agr sc5 g6 (fun k h1 h2 z => by unfold wto at z; omega))
  refine Ends.eq (b666_21 (n := n) (by (repeat' first | assumption | refine LX.setF _ _ ?_ (by decide +kernel) | refine LX.setS ?_ rfl | refine LX.setA ?_ (by first | assumption | omega))) (by first | assumption | omega)) ?_
  refine Ends.ct l3 (by decide +kernel) (by decide) (c_scan812 l3 (by omega) hn0 hn (mk A3) sc3) (fun v' q3 l4 _ _ _ ⟨g4, w'⟩ => ?_)
  rw [← eNN] at w'
  refine Ends.eq (b666_25 (n := n) (by (repeat' first | assumption | refine LX.setF _ _ ?_ (by decide +kernel) | refine LX.setS ?_ rfl | refine LX.setA ?_ (by first | assumption | omega))) (by first | assumption | omega)) ?_
  exact main NN 0 0 h3 (by omega) (Nat.zero_le _) l3 A3 i3 v' q3 _ l4 g4 w'
end GREATW
