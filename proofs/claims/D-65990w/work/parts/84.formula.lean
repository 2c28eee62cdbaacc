/-! L3: Formulas.formula -/
def mb1 (mu : Nat) (bad : Int) (yes : Bool) : Nat := if 0 < mu ∨ bad ≠ 0 ∨ yes = false then 1 else 0
def mb2 (mu : Nat) (bad : Int) (yes : Bool) : Nat := if 0 < mu ∨ bad ≠ 0 ∨ yes = true then 1 else 0
theorem mb1_is (mu : Nat) (bad : Int) (yes : Bool) : cond (tst 4 (mu : Int) 0) (1 : Int) (cond (tst 1 bad 0) 1 (cond (tst 1 (b2i yes) 0) 0 1)) = (mb1 mu bad yes : Int) := by
  unfold mb1
  rw [tst4, tst1, tst1]
  by_cases h1 : 0 < mu
  · rw [if_pos (Or.inl h1), decide_eq_true (by omega)]; rfl
  rw [decide_eq_false (show ¬ (0 : Int) < (mu : Int) by omega)]
  by_cases h2 : bad = 0
  · cases yes <;> simp [h1, h2, b2i]
  · simp [h1, h2]
theorem mb2_is (mu : Nat) (bad : Int) (yes : Bool) : cond (tst 4 (mu : Int) 0) (1 : Int) (cond (tst 1 bad 0) 1 (cond (tst 0 (b2i yes) 0) 0 1)) = (mb2 mu bad yes : Int) := by
  unfold mb2
  rw [tst4, tst1, tst0]
  by_cases h1 : 0 < mu
  · rw [if_pos (Or.inl h1), decide_eq_true (by omega)]; rfl
  rw [decide_eq_false (show ¬ (0 : Int) < (mu : Int) by omega)]
  by_cases h2 : bad = 0
  · cases yes <;> simp [h1, h2, b2i]
  · simp [h1, h2]
theorem mb1_le (mu : Nat) (bad : Int) (yes : Bool) : mb1 mu bad yes ≤ 1 := by unfold mb1; split <;> omega
theorem mb2_le (mu : Nat) (bad : Int) (yes : Bool) : mb2 mu bad yes ≤ 1 := by unfold mb2; split <;> omega
theorem mb1_m (mu : Nat) (bad : Int) (yes : Bool) : cond (tst 5 ((mu + mb1 mu bad yes : Nat) : Int) 0) (0 : Int) 1 = (mb1 mu bad yes : Int) := by
  rw [tst5]
  have h : mb1 mu bad yes = if 0 < mu ∨ bad ≠ 0 ∨ yes = false then 1 else 0 := rfl
  have h2 := mb1_le mu bad yes
  by_cases q : 0 < mu + mb1 mu bad yes
  · rw [decide_eq_true (by omega)]
    have : mb1 mu bad yes = 1 := by
      by_cases z : 0 < mu
      · rw [h, if_pos (Or.inl z)]
      · omega
    rw [this]; rfl
  · rw [decide_eq_false (by omega)]
    have : mb1 mu bad yes = 0 := by omega
    rw [this]; rfl
theorem c01n {x : Nat} (h : x ≤ 1) : cond (tst 0 (x : Int) 0) (0 : Int) 1 = (x : Int) := by
  have : x = 0 ∨ x = 1 := by omega
  rcases this with rfl | rfl <;> rfl
theorem sg_if (u : Nat → Int) (m p : Nat) (s : Int) : (if ((tkK u m p : Nat) : Int) = 3 ∧ tkS u m p = s then (1 : Int) else 0) = if isSg u m p s then 1 else 0 := by
  unfold isSg
  by_cases e1 : tkK u m p = 3 <;> by_cases e2 : tkS u m p = s
  · simp [e1, e2]
  · simp [e1, e2]
  · simp [e1]
    omega
  · simp [e1, e2]
theorem isSg_iff {u : Nat → Int} {m p : Nat} {s : Int} : isSg u m p s = true ↔ tkK u m p = 3 ∧ tkS u m p = s := by
  unfold isSg
  simp
theorem fBad_is (x : Fq) : cond (tst 0 x.2.2.2 0) (cond (tst 0 x.2.2.1 0) (0 : Int) 1) x.2.2.2 = fBad x := by
  unfold fBad
  rw [tst0, tst0]
  by_cases h1 : x.2.2.2 = 0 <;> by_cases h2 : x.2.2.1 = 0 <;> simp [h1, h2]
theorem yes_is (x : Int) : cond (tst 0 (cmp64 x 0) 0) (0 : Int) 1 = b2i (decide (x ≠ 0)) := by
  rw [tc0]
  by_cases h : x = 0 <;> simp [h, b2i]
section FORMULA
variable {gv : Nat → Int} {B n a m : Nat} {u c bb : Nat → Int} {nv : Nat} {tl tf : Int} {fd : Nat → Int} {bk : Nat → Bool}
theorem FW_f {k z : Nat} (h : z = 8 ∨ z = 9 ∨ z = 10 ∨ z = 14) : FW B k (B + 7) z := Or.inr (Or.inl ⟨rfl, h⟩)
theorem SgT.f {h : AH} {p z : Nat} {v : Int} (R : SgT h (B + 8) u m p) : SgT (hset h (B + 7) z v) (B + 8) u m p := R.agr (W := fun c _ => c = B + 7) (Agr.rf.set rfl) (fun z => by omega)
theorem frA_f {h : AH} {i z : Nat} {v : Int} : frA B (hset h (B + 7) z v) i = frA B h i := frA_agr (W := fun c _ => c = B + 7) (Agr.rf.set rfl) (fun c h1 h2 => by omega)
theorem envM_p {h : AH} {mu nu : Nat} (e : 0 < mu ↔ 0 < nu) : envM B h mu = envM B h nu := by
  unfold envM
  by_cases q : 0 < mu
  · rw [if_pos (Or.inr q), if_pos (Or.inr (e.mp q))]
  · by_cases q2 : hv h (B + 7) 11 = 0
    · rw [if_pos (Or.inl q2), if_pos (Or.inl q2)]
    · rw [if_neg (fun z => z.elim q2 q), if_neg (fun z => z.elim q2 (fun w => q (e.mpr w)))]
set_option maxHeartbeats 4000000 in
theorem stepA {g : Nat} (hB : HB gv B n a m u c bb nv tl tf fd bk g) (hA : HA gv B n a m u c bb nv tl tf fd bk g) : HA gv B n a m u c bb nv tl tf fd bk (g + 1) := by
  intro d dp p k mu h acc r hp l F P hd
  have P0 := P
  obtain ⟨P1, P2, P3, P4, P5, P6, P7, P8⟩ := P
  have hm : m ≤ 240 := F.1.2.2.2.2.2.2.2.2.1
  have hb := l.2.2
  have hp : (match pS u m fd bk g 1 0 dp p acc with
      | none => none
      | some (.inl e) => some (.inl e)
      | some (.inr (D, N, p1)) => if isSg u m p1 63 then (if 24 ≤ dp then some (.inl (tkF u m (tkT u m p1))) else match pS u m fd bk g 0 0 (dp + 1) (tkT u m p1) acc with
        | none => none
        | some (.inl e) => some (.inl e)
        | some (.inr (Y, N2, p3)) => if isSg u m p3 58 then (match pS u m fd bk g 0 0 (dp + 1) (tkT u m p3) acc with
          | none => none
          | some (.inl e) => some (.inl e)
          | some (.inr (Z, N3, p5)) => some (.inr (fun e => fIf (D e) (Y e) (Z e), orN N (orN N2 N3), p5))) else some (.inl (tkF u m p3))) else some (.inr (D, N, p1))) = some r := hp
  refine Vx.into (D := d - 1) (by omega) (Nat.le_of_ble_eq_true rfl) rfl (fun d' hd' => ?_)
  refine Ends.eq (b196_0 (n := n) (by (repeat' first | assumption | refine LX.setF _ _ ?_ (by decide +kernel) | refine LX.setS ?_ rfl | refine LX.setA ?_ (by first | assumption | omega))) (by first | assumption | omega)) ?_
  cases e1 : pS u m fd bk g 1 0 dp p acc with
  | none => rw [e1] at hp; cases hp
  | some r1 =>
  rw [e1] at hp
  refine Ends.cx (c := 19) l (by decide +kernel) (hB d' dp p k mu 0 h acc r1 e1 (by omega) l F P0 (by omega)) (fun x h' ⟨e, _, w⟩ => w.c) rfl (fun h1 l1 _ _ _ ⟨D, N, p1, er, R⟩ => ?_) (fun x h' _ _ ⟨e, er, w⟩ => by
    subst er
    exact Or.inr ⟨x, h', rfl, e, (Option.some.inj hp).symm, w⟩)
  subst er
  dsimp only at hp
  have R1 := R
  obtain ⟨r1, r2, r3, r4, r5, r6, r7, r8, r9⟩ := R
  have F1 := F.agr l r1
  have ho := F1.1.1.1
  refine Ends.eq (b196_5 (n := n) (by (repeat' first | assumption | refine LX.setF _ _ ?_ (by decide +kernel) | refine LX.setS ?_ rfl | refine LX.setA ?_ (by first | assumption | omega))) (by first | assumption | omega)) ?_
  rw [v368_is, r2.1, r2.2.2.2.1, sg_if]
  cases hq : isSg u m p1 63 with
  | false =>
    rw [hq] at hp
    exact Ends.b1 (fun z => absurd rfl z) (fun _ => Ends.sm (Or.inl ⟨_, rfl, D, N, p1, (Option.some.inj hp).symm, R1⟩))
  | true =>
  rw [hq] at hp
  have hp : (if 24 ≤ dp then some (.inl (tkF u m (tkT u m p1))) else match pS u m fd bk g 0 0 (dp + 1) (tkT u m p1) acc with
        | none => none
        | some (.inl e) => some (.inl e)
        | some (.inr (Y, N2, p3)) => if isSg u m p3 58 then (match pS u m fd bk g 0 0 (dp + 1) (tkT u m p3) acc with
          | none => none
          | some (.inl e) => some (.inl e)
          | some (.inr (Z, N3, p5)) => some (.inr (fun e => fIf (D e) (Y e) (Z e), orN N (orN N2 N3), p5))) else some (.inl (tkF u m p3))) = some r := hp
  refine Ends.b1 (fun _ => ?_) (fun z => absurd z (by decide))
  rw [r3, b100_1' (by omega), tn]
  refine Ends.g ⟨by omega, by omega⟩ ?_
  rw [show hv h1 (B + 14) k = (frA B h1 k).2.2.2 from rfl, show hv h1 (B + 13) k = (frA B h1 k).2.2.1 from rfl, show hv h1 (B + 11) k = (frA B h1 k).1 from rfl, fBad_is, yes_is]
  generalize hC : frA B h1 k = C at *
  obtain ⟨t1, t2, t3⟩ := tk_le (u := u) r9
  have kq := (isSg_iff.mp hq).1
  have t4 := tk_lt (u := u) (m := m) (p := p1) (by omega)
  refine Ends.cv l1 (by decide +kernel) (c_sgNext l1 (by omega) F1.1.1 F1.1.2.1.t.1 r2.2.2.1 t2) (fun h2 l2 _ _ _ ⟨g2, R2⟩ => ?_)
  have G2 : Agr (FW B k) h h2 := r1.tr (g2.sub FW_sg (W' := FW B (k + 1))) (FW_le (by omega))
  have F2 := F.agr l G2
  have a8 : hv h2 (B + 7) 8 = ((k + 1 : Nat) : Int) := by rw [g2.at _ _ (by unfold sgW; omega)]; exact r3
  have a9 : hv h2 (B + 7) 9 = (mu : Int) := by rw [g2.at _ _ (by unfold sgW; omega)]; exact r4
  have a10 : hv h2 (B + 7) 10 = (dp : Int) := by rw [g2.at _ _ (by unfold sgW; omega)]; exact r5
  have c2 : frA B h2 k = C := by rw [frA_agr g2 (fun c h1 h2 => by unfold sgW; omega)]; exact hC
  refine Ends.eq (b196_82 (n := n) (by (repeat' first | assumption | refine LX.setF _ _ ?_ (by decide +kernel) | refine LX.setS ?_ rfl | refine LX.setA ?_ (by first | assumption | omega))) (by first | assumption | omega)) ?_
  refine Ends.cx (c := 19) l2 (by decide +kernel) (c_enter l2 (by omega) F2.1.1.1 a10 P7 R2.2.1) (fun x h' w => w.2.c) rfl (fun h3 l3 _ _ _ ⟨dlt, g3, a103⟩ => ?_) (fun x h' _ _ ⟨de, w⟩ => by
    rw [if_pos (by omega)] at hp
    exact Or.inr ⟨x, h', rfl, _, (Option.some.inj hp).symm, ⟨_, (G2.set (FW_f (by omega))).sub (FW_le (Nat.zero_le k)), w⟩⟩)
  rw [if_neg (by omega)] at hp
  have G3 : Agr (FW B k) h h3 := G2.tr g3 (fun c z q => by rw [q.1, q.2]; exact FW_f (by omega))
  have a83 : hv h3 (B + 7) 8 = ((k + 1 : Nat) : Int) := by rw [g3.at _ _ (by omega)]; exact a8
  have a93 : hv h3 (B + 7) 9 = (mu : Int) := by rw [g3.at _ _ (by omega)]; exact a9
  have c3 : frA B h3 k = C := by rw [frA_agr g3 (fun c h1 h2 => by omega)]; exact c2
  have R3 : SgT h3 (B + 8) u m (tkT u m p1) := R2.agr g3 (fun z => by omega)
  refine Ends.eq (b196_86 (n := n) (by (repeat' first | assumption | refine LX.setF _ _ ?_ (by decide +kernel) | refine LX.setS ?_ rfl | refine LX.setA ?_ (by first | assumption | omega))) (by first | assumption | omega)) ?_
  have hb1 := mb1_le mu (fBad C) (decide (C.1 ≠ 0))
  rw [a93, mb1_is, addNN (by omega), mb1_m]
  cases e2 : pS u m fd bk g 0 0 (dp + 1) (tkT u m p1) acc with
  | none => rw [e2] at hp; cases hp
  | some r2' =>
  rw [e2] at hp
  generalize hB1 : mb1 mu (fBad C) (decide (C.1 ≠ 0)) = B1 at *
  have l3' : LX B n (hset h3 (B + 7) 9 ((mu + B1 : Nat) : Int)) := LX.setF 7 9 l3 (by decide +kernel)
  have G3' : Agr (FW B k) h (hset h3 (B + 7) 9 ((mu + B1 : Nat) : Int)) := G3.set (FW_f (by omega))
  have F3 := F.agr l G3'
  refine Ends.cx (c := 19) l3' (by decide +kernel) (hA d' (dp + 1) (tkT u m p1) (k + 1) (mu + B1) _ acc r2' e2 l3' F3 ⟨R3.f, by rw [hv_set_ne (by omega)]; exact a83, hv_set_at .., by rw [hv_set_ne (by omega)]; exact a103, t2, by omega, by omega, by omega, ((pS_rc g).2.1 _ dp p acc P8.2 D N p1 e1).s⟩ (by omega)) (fun x h' ⟨e, _, w⟩ => w.c) rfl (fun h4 l4 _ _ _ ⟨Y, N2, p3, er, RY⟩ => ?_) (fun x h' _ _ ⟨e, er, w⟩ => by
    subst er
    exact Or.inr ⟨x, h', rfl, e, (Option.some.inj hp).symm, XE.pre G3' w⟩)
  subst er
  have hp : (if isSg u m p3 58 then (match pS u m fd bk g 0 0 (dp + 1) (tkT u m p3) acc with
          | none => none
          | some (.inl e) => some (.inl e)
          | some (.inr (Z, N3, p5)) => some (.inr (fun e => fIf (D e) (Y e) (Z e), orN N (orN N2 N3), p5))) else some (.inl (tkF u m p3))) = some r := hp
  obtain ⟨y1, y2, y3, y4, y5, y6, y7, y8, y9⟩ := RY
  have G4 : Agr (FW B k) h h4 := G3'.tr y1 (FW_le (by omega))
  have c4 : frA B h4 k = C := by rw [frA_agr y1 (fun c h1 h2 => by unfold FW; omega), frA_f]; exact c3
  refine Ends.eq (b196_133 (n := n) (by (repeat' first | assumption | refine LX.setF _ _ ?_ (by decide +kernel) | refine LX.setS ?_ rfl | refine LX.setA ?_ (by first | assumption | omega))) (by first | assumption | omega)) ?_
  rw [y4, y5, c01n hb1, subNN (by omega) (by omega), show mu + B1 - B1 = mu by omega, b100_1' (by omega)]
  have l4' : LX B n (hset (hset h4 (B + 7) 9 (mu : Int)) (B + 7) 10 (dp : Int)) := LX.setF 7 10 (LX.setF 7 9 l4 (by decide +kernel)) (by decide +kernel)
  have G4' : Agr (FW B k) h (hset (hset h4 (B + 7) 9 (mu : Int)) (B + 7) 10 (dp : Int)) := (G4.set (FW_f (by omega))).set (FW_f (by omega))
  have F4 := F.agr l G4'
  obtain ⟨s1, s2, s3⟩ := tk_le (u := u) y9
  refine Ends.cx (c := 19) l4' (by decide +kernel) (c_need l4' (by omega) F4.1.1 (by have := l4'.2.2; omega) F4.1.2.1.t.1 (y2.f.f) s2) (fun x h' w => w.2.c) rfl (fun h5 l5 _ _ _ ⟨kc, g5, R5⟩ => ?_) (fun x h' _ _ ⟨kc, w⟩ => by
    have : isSg u m p3 58 = false := by
      cases q : isSg u m p3 58 with
      | false => rfl
      | true => exact absurd (isSg_iff.mp q) kc
    rw [this] at hp
    exact Or.inr ⟨x, h', rfl, _, (Option.some.inj hp).symm, ⟨_, G4'.sub (FW_le (Nat.zero_le k)), w⟩⟩)
  rw [isSg_iff.mpr kc] at hp
  have hp : (match pS u m fd bk g 0 0 (dp + 1) (tkT u m p3) acc with
          | none => none
          | some (.inl e) => some (.inl e)
          | some (.inr (Z, N3, p5)) => some (.inr (fun e => fIf (D e) (Y e) (Z e), orN N (orN N2 N3), p5))) = some r := hp
  have s4 := tk_lt (u := u) (m := m) (p := p3) (by omega)
  have G5 : Agr (FW B k) h h5 := G4'.tr g5 FW_sg
  have F5 := F.agr l G5
  have g5f : ∀ z, hv h5 (B + 7) z = hv (hset (hset h4 (B + 7) 9 (mu : Int)) (B + 7) 10 (dp : Int)) (B + 7) z := fun z => g5.at _ _ (by unfold sgW; omega)
  have a105 : hv h5 (B + 7) 10 = (dp : Int) := by rw [g5f]; exact hv_set_at ..
  have a95 : hv h5 (B + 7) 9 = (mu : Int) := by rw [g5f, hv_set_ne (by omega)]; exact hv_set_at ..
  have a85 : hv h5 (B + 7) 8 = ((k + 2 : Nat) : Int) := by rw [g5f, hv_set_ne (by omega), hv_set_ne (by omega)]; exact y3
  have fr5 : ∀ i, frA B h5 i = frA B h4 i := fun i => by rw [frA_agr g5 (fun c h1 h2 => by unfold sgW; omega), frA_f, frA_f]
  refine Ends.eq (b196_171 (n := n) (by (repeat' first | assumption | refine LX.setF _ _ ?_ (by decide +kernel) | refine LX.setS ?_ rfl | refine LX.setA ?_ (by first | assumption | omega))) (by first | assumption | omega)) ?_
  refine Ends.cx (c := 19) l5 (by decide +kernel) (c_enter l5 (by omega) F5.1.1.1 a105 P7 R5.2.1) (fun x h' w => w.2.c) rfl (fun h6 l6 _ _ _ ⟨_, g6, a106⟩ => ?_) (fun x h' _ _ ⟨de, w⟩ => by omega)
  have G6 : Agr (FW B k) h h6 := G5.tr g6 (fun c z q => by rw [q.1, q.2]; exact FW_f (by omega))
  have a96 : hv h6 (B + 7) 9 = (mu : Int) := by rw [g6.at _ _ (by omega)]; exact a95
  have a86 : hv h6 (B + 7) 8 = ((k + 2 : Nat) : Int) := by rw [g6.at _ _ (by omega)]; exact a85
  have R6 : SgT h6 (B + 8) u m (tkT u m p3) := R5.agr g6 (fun z => by omega)
  refine Ends.eq (b196_175 (n := n) (by (repeat' first | assumption | refine LX.setF _ _ ?_ (by decide +kernel) | refine LX.setS ?_ rfl | refine LX.setA ?_ (by first | assumption | omega))) (by first | assumption | omega)) ?_
  have hb2 := mb2_le mu (fBad C) (decide (C.1 ≠ 0))
  rw [a96, mb2_is, c01n hb2, addNN (by omega)]
  generalize hB2 : mb2 mu (fBad C) (decide (C.1 ≠ 0)) = B2 at *
  cases e3 : pS u m fd bk g 0 0 (dp + 1) (tkT u m p3) acc with
  | none => rw [e3] at hp; cases hp
  | some r3' =>
  rw [e3] at hp
  have l6' : LX B n (hset h6 (B + 7) 9 ((mu + B2 : Nat) : Int)) := LX.setF 7 9 l6 (by decide +kernel)
  have G6' : Agr (FW B k) h (hset h6 (B + 7) 9 ((mu + B2 : Nat) : Int)) := G6.set (FW_f (by omega))
  have F6 := F.agr l G6'
  refine Ends.cx (c := 19) l6' (by decide +kernel) (hA d' (dp + 1) (tkT u m p3) (k + 2) (mu + B2) _ acc r3' e3 l6' F6 ⟨R6.f, by rw [hv_set_ne (by omega)]; exact a86, hv_set_at .., by rw [hv_set_ne (by omega)]; exact a106, s2, by omega, by omega, by omega, ((pS_rc g).1 _ _ acc ((pS_rc g).2.1 _ dp p acc P8.2 D N p1 e1).s Y N2 p3 e2).s⟩ (by omega)) (fun x h' ⟨e, _, w⟩ => w.c) rfl (fun h7 l7 _ _ _ ⟨Z, N3, p5, er, RZ⟩ => ?_) (fun x h' _ _ ⟨e, er, w⟩ => by
    subst er
    exact Or.inr ⟨x, h', rfl, e, (Option.some.inj hp).symm, XE.pre G6' w⟩)
  subst er
  obtain ⟨z1, z2, z3, z4, z5, z6, z7, z8, z9⟩ := RZ
  have G7 : Agr (FW B k) h h7 := G6'.tr z1 (FW_le (by omega))
  have fr7 : ∀ i, i < k + 2 → frA B h7 i = frA B h4 i := fun i hi => by rw [frA_agr z1 (fun c h1 h2 => by unfold FW; omega), frA_f, frA_agr g6 (fun c h1 h2 => by omega), fr5]
  have c7 : frA B h7 k = C := by rw [fr7 k (by omega)]; exact c4
  have eY : frA B h7 (k + 1) = Y (envM B h (mu + B1)) := by rw [fr7 _ (by omega), y6, envM_agr G3']
  have eZ : frA B h7 (k + 2) = Z (envM B h (mu + B2)) := by rw [z6, envM_agr G6']
  have okC : FOK C := r7
  have okY : FOK (frA B h7 (k + 1)) := by rw [fr7 _ (by omega)]; exact y7
  have eC : C = D (envM B h mu) := r6
  refine Ends.eq (b196_220 (n := n) (by (repeat' first | assumption | refine LX.setF _ _ ?_ (by decide +kernel) | refine LX.setS ?_ rfl | refine LX.setA ?_ (by first | assumption | omega))) (by first | assumption | omega)) ?_
  rw [z3, z4, z5, c01n hb2, subNN (by omega) (by omega), show mu + B2 - B2 = mu by omega, b100_1' (by omega), show ((k + 2 + 1 : Nat) : Int) = ((k + 3 : Nat) : Int) from rfl, b100_3 (by omega), b96_1 (by omega), b96_2 (by omega)]
  have l7' : LX B n (hset (hset (hset h7 (B + 7) 9 (mu : Int)) (B + 7) 10 (dp : Int)) (B + 7) 8 (k : Int)) := LX.setF 7 8 (LX.setF 7 10 (LX.setF 7 9 l7 (by decide +kernel)) (by decide +kernel)) (by decide +kernel)
  have G7' : Agr (FW B k) h (hset (hset (hset h7 (B + 7) 9 (mu : Int)) (B + 7) 10 (dp : Int)) (B + 7) 8 (k : Int)) := ((G7.set (FW_f (by omega))).set (FW_f (by omega))).set (FW_f (by omega))
  have fin : ∀ (X : Fq) (h8 : AH), PutR B k (hset (hset (hset h7 (B + 7) 9 (mu : Int)) (B + 7) 10 (dp : Int)) (B + 7) 8 (k : Int)) X h8 → X = fIf C (Y (envM B h mu)) (Z (envM B h mu)) → FOK X → (∃ h', ((0, (9, 0)), h8) = (((0, (9, 0)), h') : Rs) ∧ ∃ D' N' p', r = .inr (D', N', p') ∧ FR B m u h h' k mu dp D' p p') ∨ ∃ x h', ((0, (9, 0)), h8) = (((1, (2, x)), h') : Rs) ∧ ∃ e, r = .inl e ∧ XE B h e x h' := by
    intro X h8 ⟨w1, w2, w3⟩ eX okX
    refine Or.inl ⟨h8, rfl, _, _, _, (Option.some.inj hp).symm, G7'.tr w1 FW_pl, z2.f.f.f.agr w1 (fun z => by unfold plW; omega), w2, ?_, ?_, ?_, ?_, by omega, z9⟩
    · rw [w1.at _ _ (by unfold plW; omega), hv_set_ne (by omega), hv_set_ne (by omega)]; exact hv_set_at ..
    · rw [w1.at _ _ (by unfold plW; omega), hv_set_ne (by omega)]; exact hv_set_at ..
    · rw [w3, eX, eC]
    · rw [w3]; exact okX
  refine Ends.b0 (fun hb0 => ?_) (fun hb0 => ?_)
  · by_cases hy : C.1 = 0
    · have ey : b2i (decide (C.1 ≠ 0)) = 0 := by rw [decide_eq_false (fun z => z hy)]; rfl
      rw [ey, show cond (tst 0 (0 : Int) 0) ((k + 2 : Nat) : Int) ((k + 1 : Nat) : Int) = ((k + 2 : Nat) : Int) from rfl, tn]
      refine Ends.g ⟨by omega, by omega⟩ ?_
      refine Ends.cv l7' (by decide +kernel) (c_push (k := k) l7' (by omega) (hv_set_at ..) (by omega)) (fun h8 l8 _ _ _ W => ?_)
      refine Ends.eq (b196_321 (n := n) (by (repeat' first | assumption | refine LX.setF _ _ ?_ (by decide +kernel) | refine LX.setS ?_ rfl | refine LX.setA ?_ (by first | assumption | omega))) (by first | assumption | omega)) ?_
      refine Ends.sm (fin (frA B h7 (k + 2)) h8 W ?_ z7)
      unfold fIf
      rw [if_neg (fun z => z hb0), if_neg (fun z => z hy), eZ]
      have : mb2 mu (fBad C) (decide (C.1 ≠ 0)) = if 0 < mu then 1 else 0 := by
        unfold mb2
        rw [hb0, decide_eq_false (fun z => z hy)]
        by_cases q : 0 < mu <;> simp [q]
      rw [envM_p (mu := mu + B2) (nu := mu) (by rw [← hB2, this]; by_cases q : 0 < mu <;> simp [q])]
    · have ey : b2i (decide (C.1 ≠ 0)) = 1 := by rw [decide_eq_true hy]; rfl
      rw [ey, show cond (tst 0 (1 : Int) 0) ((k + 2 : Nat) : Int) ((k + 1 : Nat) : Int) = ((k + 1 : Nat) : Int) from rfl, tn]
      refine Ends.g ⟨by omega, by omega⟩ ?_
      refine Ends.cv l7' (by decide +kernel) (c_push (k := k) l7' (by omega) (hv_set_at ..) (by omega)) (fun h8 l8 _ _ _ W => ?_)
      refine Ends.eq (b196_321 (n := n) (by (repeat' first | assumption | refine LX.setF _ _ ?_ (by decide +kernel) | refine LX.setS ?_ rfl | refine LX.setA ?_ (by first | assumption | omega))) (by first | assumption | omega)) ?_
      refine Ends.sm (fin (frA B h7 (k + 1)) h8 W ?_ okY)
      unfold fIf
      rw [if_neg (fun z => z hb0), if_pos hy, eY]
      have : mb1 mu (fBad C) (decide (C.1 ≠ 0)) = if 0 < mu then 1 else 0 := by
        unfold mb1
        rw [hb0, decide_eq_true hy]
        by_cases q : 0 < mu <;> simp [q]
      rw [envM_p (mu := mu + B1) (nu := mu) (by rw [← hB1, this]; by_cases q : 0 < mu <;> simp [q])]
  · refine Ends.cv l7' (by decide +kernel) (c_push (k := k) l7' (by omega) (hv_set_at ..) (by omega)) (fun h8 l8 _ _ _ W => ?_)
    refine Ends.eq (b196_286 (n := n) (by (repeat' first | assumption | refine LX.setF _ _ ?_ (by decide +kernel) | refine LX.setS ?_ rfl | refine LX.setA ?_ (by first | assumption | omega))) (by first | assumption | omega)) ?_
    refine Ends.eq (b196_321 (n := n) (by (repeat' first | assumption | refine LX.setF _ _ ?_ (by decide +kernel) | refine LX.setS ?_ rfl | refine LX.setA ?_ (by first | assumption | omega))) (by first | assumption | omega)) ?_
    have ok : FOK (fIf C C C) := fIf_ok okC okC okC
    have e : fIf C C C = flt (fBad C) := if_pos hb0
    rw [e] at ok
    refine Ends.sm (fin (flt (fBad C)) h8 W ?_ ok)
    unfold fIf
    rw [if_pos hb0]
end FORMULA
