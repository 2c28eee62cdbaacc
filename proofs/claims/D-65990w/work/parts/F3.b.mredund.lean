/-! L3: sketches asked (model): what follows, where points are -/
section REDM
variable {gv : Nat → Int} {B n d w1 nk np q s : Nat} {h : AH} {cs : Nat → Cst} {w xa xb xc dr : Nat → Int} {isC gk sel : Nat → Bool} {Inv : AH → Prop}
theorem fol_iff {E : (Nat → Int) → Int → Prop} {A : (Nat → Int) → Prop} {u : Nat} {W : (Nat → Bool) → Int} {C' : Nat → Bool} {t y : Int} {pc : Nat → Nat} {L : List (Nat × Int)} {r : AH} (R : RepE 24 E A) (F : GjF B r A u W C' t pc) (hL : RwK L) : (∀ S, wdg 25 W (rwTc L y) S = 0) ↔ Fol E (tmS L) y := by
  obtain ⟨⟨f1, f2, f3, f4⟩, f5, f6, f7⟩ := F
  have ha : ∀ j, 24 ≤ j → tmS L j = 0 := tmS_hi L (fun t ht => (hL.2.2.2 t ht).1)
  have e1 : ∀ j, j < 24 → tmS L j = 1 * rwTc L y j := fun j hj => by
    unfold rwTc
    rw [if_neg (by omega), Int.one_mul]
  have e2 : y = 1 * rwTc L y 24 := by
    unfold rwTc
    rw [if_pos rfl, Int.one_mul]
  constructor
  · intro hz
    exact fol_of (m := 24) R (Nat.le_refl 24) f1 f3 hz ha e1 e2
  · intro Fo S
    refine f1.wdg0 (fun j hj => ?_) S
    cases cj : C' j
    · rcases Classical.em (rho 25 W C' t (rwTc L y) j = 0) with z | z
      · exact z
      · exact absurd Fo (not_fol (m := 24) R (Nat.le_refl 24) f4 hj cj z (by decide) ha e1 e2)
    · exact rho_in hj cj
theorem tst2_f {k : Nat} : tst 2 (k : Int) 0 = false := by
  have : (cond (tst 2 (k : Int) 0) (0 : Int) 1) = 1 := by rw [ct2, if_neg (by omega)]
  cases e : tst 2 (k : Int) 0
  · rfl
  · rw [e] at this; cases this
theorem tst3_f {k m : Nat} (h : k < m) : tst 3 (k : Int) (m : Int) = false := by
  have : (cond (tst 3 (k : Int) (m : Int)) (0 : Int) 1) = 1 := by rw [ct3, if_pos (by omega)]
  cases e : tst 3 (k : Int) (m : Int)
  · rfl
  · rw [e] at this; cases this
set_option maxHeartbeats 2000000 in
theorem c_redundant802 {k : Nat} (l : LX B n h) (hd : 998 ≤ d) (M : MdC B q s w1 h) (H : MdH gv B n w1 nk np h cs w xa xb xc dr isC gk Inv) (i0 : Inv h) (hk : k < nk) (ik : isC k = true) :
    Vt 0 (cll PP (ev PP (gsF gv) B) d 802 [(2, rf (B + 149)), (0, (s : Int)), (0, (k : Int))] h) (fun x h' => Agr (hlF B) h h' ∧ Inv h' ∧ ((0 ≤ fstB (flC cs isC gk) nk 0 ∧ hv h' (B + 149) 0 = 2 ∧ x = 0) ∨ (fstB (flC cs isC gk) nk 0 < 0 ∧ hv h' (B + 149) 0 = 0 ∧ ((x = 1 ∧ rdS cs isC w k) ∨ (x = 0 ∧ ¬ rdS cs isC w k))))) := by
  obtain ⟨hq, D, e1, hs, e7⟩ := id M
  have kn := H.1.2.1.2.1
  obtain ⟨⟨Sa, Ca, Da, ea⟩, hIa, HGa⟩ := id H
  refine Vt.inq (D := 997) hd (Nat.le_of_ble_eq_true rfl) rfl (fun d hd Q K => ?_)
  refine Ends.eq (b802_0 l (by omega) hq D) ?_
  rw [e7]
  simp only [tn]
  rw [← e1, Ca.1, ea k hk, ik, tst2_f, tst3_f hk, show tst 1 (0 : Int) 0 = false from rfl, show tst 1 (b2i true) 0 = true from rfl]
  simp only [cond_false, cond_true]
  refine Ends.g ⟨⟨by omega, by omega⟩, by omega, by omega⟩ (Ends.b0 (fun _ => Ends.g ⟨by omega, by omega⟩ ?_) (fun z => absurd rfl z))
  refine Ends.ct l (by decide +kernel) (by decide) (c_firstFaulty637 (h0 := h) l (by omega) Sa Ca ea hIa.1 i0 HGa (fun _ => rfl)) (fun y q1 l1 _ _ _ ⟨g1, i1, ey⟩ => ?_)
  refine Ends.eq (b802_73 l1 (by omega)) ?_
  rw [ct2]
  refine Ends.eq (b802_81 l1 (by omega)) ?_
  refine Ends.ct l1 (by decide +kernel) (by decide) (c_fails l1 (by omega)) (fun x q2 l2 _ _ _ ⟨ex, eqq2⟩ => ?_)
  have g2 : Agr (hlF B) q1 q2 := by rw [eqq2]; exact f0_ok
  have G2 : Agr (hlF B) h q2 := (g1.sub (fun c k z => Or.inl (Or.inr z))).tr g2 (fun _ _ z => z)
  have M2 : MdC B q s w1 q2 := M.far G2
  have i2 : Inv q2 := by rw [eqq2]; exact hIa.2 _ _ i1 (Agr.rf.set ⟨rfl, rfl⟩)
  have z2 : hv q2 (B + 149) 0 = if y < 0 then 0 else 2 := by rw [eqq2, hv_set_at]
  have H2 : MdH gv B n w1 nk np q2 cs w xa xb xc dr isC gk Inv := H.far G2 (fun c k z => hlF_lo z)
  refine Ends.eq (b802_84 l2 (by omega) M2.1 M2.2.1) ?_
  rw [ex, tn, ← e1]
  rcases (by omega : y < 0 ∨ 0 ≤ y) with yn | yp
  · have nf : ∀ i, i < nk → flC cs isC gk i = false := fun i hi => fstB_neg nk 0 (by omega) i (Nat.zero_le i) (by omega)
    rw [if_pos yn, if_neg (Int.lt_irrefl 0)]
    rw [if_pos yn] at z2
    refine Ends.b0 (fun _ => Ends.g ⟨by omega, by omega⟩ ?_) (fun z => absurd rfl z)
    -- at the end
    have fin : ∀ (t : AH) (x : Int), Agr (hlW B) q2 t → Inv t → ((x = 1 ∧ rdS cs isC w k) ∨ (x = 0 ∧ ¬ rdS cs isC w k)) → Q ((0, (0, x)), t) := fun t x g i e => K _ _ ⟨G2.tr g (fun _ _ z => Or.inl z), i, Or.inr ⟨by omega, by rw [hl_0 g]; exact z2, e⟩⟩
    have at_ : ∀ {t : AH}, Agr (hlW B) q2 t → MdH gv B n w1 nk np t cs w xa xb xc dr isC gk Inv := fun {t} g => H2.far g (fun c k z => ho_lo z)
    obtain ⟨⟨Sb, Cb, Db, eb⟩, hIb, HGb⟩ := id H2
    refine Ends.ct l2 (by decide +kernel) (by decide) (c_constraintsOf579 (isC := isC) l2 (by omega) Sb Cb eb) (fun y3 q3 l3 _ _ _ ⟨g3, ey3, e165⟩ => ?_)
    subst ey3
    have g3' : Agr (hlW B) q2 q3 := g3.sub (fun c k z => Or.inl (by unfold skW; omega))
    have i3 := hIb.1 _ _ i2 (g3.sub (fun c k z => by unfold skW; omega))
    have loop : ∀ (r i : Nat) (t : AH), i + r = nk → k ≤ i → LX B n t → Agr (hlW B) q2 t → Inv t → (∀ j, j < nk → hv t (B + 165) j = b2i (isC j && !decide (k ≤ j ∧ j < i))) → Ends (ev PP (gsF gv) B d 802 111 [(2, rf (B + 149)), (0, (s : Int)), (0, (k : Int)), (0, 0), (2, rf w1), (2, rf (B + 165)), (0, (i : Int))] [] t) Q := by
      intro r
      induction r with
      | zero =>
        intro i t ei ki lt g it e6
        obtain rfl : i = nk := by omega
        have e6' : ∀ j, j < i → hv t (B + 165) j = b2i ((fun j => isC j && decide (j < k)) j) := fun j hj => by
          rw [e6 j hj]
          show b2i (isC j && !decide (k ≤ j ∧ j < i)) = b2i (isC j && decide (j < k))
          by_cases y : j < k
          · rw [decide_eq_true y, decide_eq_false (by omega : ¬ (k ≤ j ∧ j < i))]; rfl
          · rw [decide_eq_false y, decide_eq_true (by omega : k ≤ j ∧ j < i)]; rfl
        obtain ⟨⟨Sc, Cc, Dc, ec⟩, hIc, HGc⟩ := at_ g
        refine Ends.eq (b802_111 (n := n) (by (repeat' first | assumption | refine LX.setF _ _ ?_ (by decide +kernel) | refine LX.setS ?_ rfl | refine LX.setA ?_ (by first | assumption | omega))) (by first | assumption | omega) (by first | assumption | omega)) ?_
        rw [Cc.1]
        refine Ends.b3 (fun _ => ?_) (fun z => absurd z (Int.lt_irrefl _))
        refine Ends.ct lt (by decide +kernel) (by decide) (c_holds672 (sel := fun j => isC j && decide (j < k)) lt (by omega) Sc Cc hIc.1 it (HGc.c (fun k hk z => by rw [Bool.and_eq_true] at z; exact z.1) nf) e6') (fun y5 q5 l5 _ _ _ ⟨g5, i5, e65, r5⟩ => ?_)
        have G5 : Agr (hlW B) q2 q5 := g.tr g5 (fun _ _ z => z)
        rw [EqE.lim (by omega)] at r5
        have S5 := (at_ G5).1.1
        refine Ends.eq (b802_141 (n := n) (by (repeat' first | assumption | refine LX.setF _ _ ?_ (by decide +kernel) | refine LX.setS ?_ rfl | refine LX.setA ?_ (by first | assumption | omega))) (by first | assumption | omega)) ?_
        rcases r5 with ⟨ey5, sat, A, u, W, C', t5, pc, R, -, F⟩ | ⟨ey5, ns⟩
        · rw [ey5]
          refine Ends.b1 (fun _ => ?_) (fun z => absurd z (by decide))
          obtain ⟨⟨Sd, Cd, Dd, ed⟩, hId, HGd⟩ := at_ G5
          obtain ⟨kb, kp⟩ := Cd.2.2 k hk
          have kind : (cs k).1 < 24 := kp.1
          have pn : PnC (cs k) := kp.2.2.2.2.n
          refine Ends.cv l5 (by decide +kernel) (c_equations615 (h0 := q5) (sel := isC) l5 (by omega) Sd Cd hk ik hId.1 i5 (HGd.c (fun _ _ z => z) nf) rfl) (fun q6 l6 _ _ _ ⟨g6, i6, k35, k160, k165, T6, k42⟩ => ?_)
          have G6 : Agr (hlW B) q2 q6 := G5.tr g6 (fun _ _ z => z)
          have S6 := (at_ G6).1.1
          have F6 : GjF B q6 A u W C' t5 pc := by
            obtain ⟨a1, ⟨a2, a3⟩, a4, a5, a6⟩ := F
            refine ⟨a1, ⟨a2, by rw [k35 37 (by decide) (by decide)]; exact a3⟩, a4, fun i hi => ?_, fun j hj cj => ?_⟩
            · obtain ⟨b1, b2, b3⟩ := a5 i hi
              exact ⟨b1, by rw [k160 _ (by omega) (by omega)]; exact b2, fun j hj => by rw [k160 _ (by omega) (by omega)]; exact b3 j hj⟩
            · obtain ⟨b1, b2⟩ := a6 j hj cj
              exact ⟨by rw [k160 _ (by omega) (by omega)]; exact b1, b2⟩
          have hw : -200 ≤ rhC (cs k) (w k) 0 ∧ rhC (cs k) (w k) 0 ≤ 200 := by
            unfold rhC
            by_cases z : (0 : Nat) = 0 ∧ (cs k).1 ≤ 5
            · rw [if_pos z]
              exact (HGd k 982 q5 hk ik z.2 l5 (Nat.le_refl _) i5).1
            · rw [if_neg z]; exact ⟨by decide, by decide⟩
          have rl0 : RwK (eqC (cs k) 0) := eqC_ok kind pn
          have rl1 : RwK (eqC (cs k) 1) := eqC_ok kind pn
          refine Ends.eq (b802_153 (n := n) (by (repeat' first | assumption | refine LX.setF _ _ ?_ (by decide +kernel) | refine LX.setS ?_ rfl | refine LX.setA ?_ (by first | assumption | omega))) (by first | assumption | omega)) ?_
          refine Ends.ct l6 (by decide +kernel) (by decide) (c_follows643 (e := 0) (L := eqC (cs k) 0) l6 (by omega) (by decide) T6 rfl rl0 k42 hw F6) (fun y7 q7 l7 _ _ _ ⟨g7, r7⟩ => ?_)
          rw [if_pos rfl, fol_iff R F6 rl0] at r7
          have G7 : Agr (hlW B) q2 q7 := G6.tr g7 (fun c k z => Or.inl (by unfold skW; omega))
          have i7 := hId.1 _ _ i6 (g7.sub (fun c k z => by unfold skW; omega))
          have S7 := (at_ G7).1.1
          have e43 : hv q7 (B + 149) 43 = if eq2 (cs k).1 = true then 1 else 0 := by rw [g7.at _ _ (by omega)]; exact T6.1.1
          refine Ends.eq (b802_158 (n := n) (by (repeat' first | assumption | refine LX.setF _ _ ?_ (by decide +kernel) | refine LX.setS ?_ rfl | refine LX.setA ?_ (by first | assumption | omega))) (by first | assumption | omega)) ?_
          rcases r7 with ⟨ey7, f0⟩ | ⟨ey7, f0⟩
          · rw [ey7, e43]
            refine Ends.b0 (fun z => absurd z (by decide)) (fun _ => ?_)
            by_cases two : eq2 (cs k).1 = true
            · rw [if_pos two]
              refine Ends.b0 (fun z => absurd z (by decide)) (fun _ => ?_)
              have T7 : TmL B q7 (eqC (cs k) 0) (eqC (cs k) 1) (if eq2 (cs k).1 = true then 1 else 0) := by
                obtain ⟨⟨t1, t2, t3⟩, t4, t5⟩ := T6
                refine ⟨⟨by rw [g7.at _ _ (by omega)]; exact t1, by rw [g7.at _ _ (by omega)]; exact t2, by rw [g7.at _ _ (by omega)]; exact t3⟩, fun i t ht => ?_, fun i t ht => ?_⟩
                · rw [g7.at _ _ (by omega), g7.at _ _ (by omega)]; exact t4 i t ht
                · rw [g7.at _ _ (by omega), g7.at _ _ (by omega)]; exact t5 i t ht
              have F7 : GjF B q7 A u W C' t5 pc := by
                obtain ⟨a1, ⟨a2, a3⟩, a4, a5, a6⟩ := F6
                refine ⟨a1, ⟨a2, by rw [g7.at _ _ (by omega)]; exact a3⟩, a4, fun i hi => ?_, fun j hj cj => ?_⟩
                · obtain ⟨b1, b2, b3⟩ := a5 i hi
                  exact ⟨b1, by rw [g7.at _ _ (by omega)]; exact b2, fun j hj => by rw [g7.at _ _ (by omega)]; exact b3 j hj⟩
                · obtain ⟨b1, b2⟩ := a6 j hj cj
                  exact ⟨by rw [g7.at _ _ (by omega)]; exact b1, b2⟩
              refine Ends.ct l7 (by decide +kernel) (by decide) (c_follows643 (e := 1) (L := eqC (cs k) 1) l7 (by omega) (by decide) T7 rfl rl1 (w := rhC (cs k) (w k) 0) (by rw [g7.at _ _ (by omega)]; exact k42) hw F7) (fun y8 q8 l8 _ _ _ ⟨g8, r8⟩ => ?_)
              rw [if_neg (by decide), fol_iff R F7 rl1] at r8
              have G8 : Agr (hlW B) q2 q8 := G7.tr g8 (fun c k z => Or.inl (by unfold skW; omega))
              have i8 := hId.1 _ _ i7 (g8.sub (fun c k z => by unfold skW; omega))
              have S8 := (at_ G8).1.1
              have r1 : rhC (cs k) (w k) 1 = 0 := if_neg (fun z => by omega)
              have n2 : nuE (cs k) = 2 := if_pos two
              refine Ends.eq (b802_173 (n := n) (by (repeat' first | assumption | refine LX.setF _ _ ?_ (by decide +kernel) | refine LX.setS ?_ rfl | refine LX.setA ?_ (by first | assumption | omega))) (by first | assumption | omega)) ?_
              rcases r8 with ⟨ey8, f1⟩ | ⟨ey8, f1⟩
              · rw [ey8]
                refine Ends.sm (fin q8 _ G8 i8 (Or.inl ⟨rfl, Or.inr (fun i hi => ?_)⟩))
                rcases (by omega : i = 0 ∨ i = 1) with z | z
                · rw [z]; exact f0
                · rw [z, r1]; exact f1
              · rw [ey8]
                refine Ends.sm (fin q8 _ G8 i8 (Or.inr ⟨rfl, fun z => ?_⟩))
                rcases z with z | z
                · exact z sat
                · have := z 1 (by omega)
                  rw [r1] at this
                  exact f1 this
            · rw [if_neg two]
              have n1 : nuE (cs k) = 1 := if_neg two
              refine Ends.b0 (fun _ => ?_) (fun z => absurd rfl z)
              refine Ends.eq (b802_176 (n := n) (by (repeat' first | assumption | refine LX.setF _ _ ?_ (by decide +kernel) | refine LX.setS ?_ rfl | refine LX.setA ?_ (by first | assumption | omega))) (by first | assumption | omega)) ?_
              refine Ends.eq (b802_181 (n := n) (by (repeat' first | assumption | refine LX.setF _ _ ?_ (by decide +kernel) | refine LX.setS ?_ rfl | refine LX.setA ?_ (by first | assumption | omega))) (by first | assumption | omega)) ?_
              refine Ends.g (Or.inr rfl) (Ends.sm (fin q7 _ G7 i7 (Or.inl ⟨rfl, Or.inr (fun i hi => ?_)⟩)))
              rw [show i = 0 from by omega]; exact f0
          · rw [ey7]
            refine Ends.b0 (fun _ => ?_) (fun z => absurd rfl z)
            refine Ends.eq (b802_180 (n := n) (by (repeat' first | assumption | refine LX.setF _ _ ?_ (by decide +kernel) | refine LX.setS ?_ rfl | refine LX.setA ?_ (by first | assumption | omega))) (by first | assumption | omega)) ?_
            refine Ends.eq (b802_181 (n := n) (by (repeat' first | assumption | refine LX.setF _ _ ?_ (by decide +kernel) | refine LX.setS ?_ rfl | refine LX.setA ?_ (by first | assumption | omega))) (by first | assumption | omega)) ?_
            refine Ends.g (Or.inl rfl) (Ends.sm (fin q7 _ G7 i7 (Or.inr ⟨rfl, fun z => ?_⟩)))
            rcases z with z | z
            · exact z sat
            · exact f0 (z 0 (by unfold nuE; split <;> omega))
        · rw [ey5]
          refine Ends.b1 (fun z => absurd rfl z) (fun _ => Ends.sm (fin q5 _ G5 i5 (Or.inl ⟨rfl, Or.inl ns⟩)))
      | succ r ih =>
        intro i t ei ki lt g it e6
        have St := (at_ g).1.1
        refine Ends.eq (b802_111 (n := n) (by (repeat' first | assumption | refine LX.setF _ _ ?_ (by decide +kernel) | refine LX.setS ?_ rfl | refine LX.setA ?_ (by first | assumption | omega))) (by first | assumption | omega) (by first | assumption | omega)) ?_
        rw [(at_ g).1.2.1.1, ad_rf, tn, an3 (Or.inl rfl), w_succ (by omega)]
        refine Ends.b3 (fun z => absurd z (by omega)) (fun _ => Ends.g (by have := wr_165 (i := i) lt (by omega); rw [ad_rf] at this; exact this) ?_)
        have g4s : Agr (skW B) t (hset t (B + 165) i 0) := Agr.rf.set (Or.inr ⟨by omega, by omega⟩)
        refine ih (i + 1) _ (by omega) (by omega) (lt.setS rfl) (g.tr g4s (fun _ _ z => Or.inl z)) (hIb.1 _ _ it g4s) (fun j hj => ?_)
        by_cases y : j = i
        · rw [y, hv_set_at, decide_eq_true (by omega : k ≤ i ∧ i < i + 1), Bool.not_true, Bool.and_false]; rfl
        · rw [hv_set_ne (by omega), e6 j hj]
          by_cases z : k ≤ j ∧ j < i
          · rw [decide_eq_true z, decide_eq_true (by omega : k ≤ j ∧ j < i + 1)]
          · rw [decide_eq_false z, decide_eq_false (by omega : ¬ (k ≤ j ∧ j < i + 1))]
    have S3 := (at_ g3').1.1
    refine Ends.eq (b802_106 (n := n) (by (repeat' first | assumption | refine LX.setF _ _ ?_ (by decide +kernel) | refine LX.setS ?_ rfl | refine LX.setA ?_ (by first | assumption | omega))) (by first | assumption | omega)) ?_
    refine loop (nk - k) k q3 (by omega) (Nat.le_refl k) l3 g3' i3 (fun j hj => ?_)
    rw [e165 j hj, decide_eq_false (by omega : ¬ (k ≤ j ∧ j < k)), Bool.not_false, Bool.and_true]
  · rw [if_neg (show ¬ y < 0 by omega), if_pos (show (0 : Int) < 2 by decide)]
    rw [if_neg (show ¬ y < 0 by omega)] at z2
    exact Ends.b0 (fun z => absurd z (by decide)) (fun _ => Ends.sm (K _ _ ⟨G2, i2, Or.inl ⟨by omega, z2, rfl⟩⟩))
end REDM
