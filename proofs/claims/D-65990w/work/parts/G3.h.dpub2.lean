/-! L3: the desk's public edits of sketches: a text's fault, disc, constrain -/
noncomputable section DPUB2
variable {gv : Nat → Int} {B n d s m nv nc : Nat} {h : AH} {H : Nat → Nat → Int} {t : Nat → Nat} {dn tt tu mw : Nat} {x y x3 x4 x5 kd : Int} {c b u : Nat → Int}
/-- where a text is wrong -/
theorem c_wrong104 (l : LX B n h) (hd : 420 ≤ d) (hcs : ∀ z, z < 37368 → hv h (B + 2) z = c z) (D : DW c nv nc) (T : FnB gv B h) (hm8 : m ≤ 8192) (hbb : ∀ i, hv h (B + 26) i = b i) (hb : ∀ i, i < m → -128 ≤ b i ∧ b i < 128) (hu : ∀ i, u i = b i % 256) (h11 : hv h (B + 7) 11 = 0) :
    Vt 0 (cll PP (ev PP (gsF gv) B) d 104 [(2, rf (B + 0)), (0, (m : Int))] h) (fun x h' => (m ≤ 240 ∧ (∃ X N p, txW c nv nc b u m = .inr (X, N, p)) ∧ x = -1 ∧ Agr (dfW B) h h') ∨ (∃ e : Nat, txW c nv nc b u m = .inl e ∧ x = (e : Int) ∧ (Agr (dfW B) h h' ∨ ∃ h1 y, Agr (dfW B) h h1 ∧ WrX h1 (e : Int) y h'))) := by
  have hb0 := l.2.2
  refine Vt.inq (D := 419) hd (Nat.le_of_ble_eq_true rfl) rfl (fun d hd R K => ?_)
  refine Ends.eq (b104_0 l (by omega)) (Ends.b5 (fun z => ?_) (fun z => Ends.sm (K _ _ (Or.inr ⟨240, by unfold txW; rw [if_neg (by omega)], rfl, Or.inl Agr.rf⟩))))
  have m240 : m ≤ 240 := by omega
  refine Ends.cv l (by decide +kernel) (c_fmBegin (u := u) (N := 8192) l (by omega) T.1 ⟨lk_8 l, by omega⟩ (lk_26 l) hm8 hm8 (fun i hi => by rw [hbb, hu])) (fun h1 l1 _ _ _ ⟨g1, S1, R1, v12, v13⟩ => ?_)
  have G1 : Agr (dfW B) h h1 := g1.sub (fun c z w => by unfold dfW; omega)
  have v11 : hv h1 (B + 7) 11 = 0 := by rw [g1.at _ _ (by omega)]; exact h11
  have tape : ∀ i, hv h1 (B + 26) i = b i := fun i => by rw [g1.at _ _ (by omega)]; exact hbb i
  have F : FC gv B (B + 26) m u c b nv (-1) ((0 : Nat) : Int) h1 := ⟨⟨S1, T.agr g1 (fun c k hk => by omega), by omega, fun i hi => by rw [tape]; exact hb i hi, fun z hz => by rw [g1.at _ _ (by omega)]; exact hcs z hz, D.1, D.2.1, v12, m240, 8192, lk_26 l1, by omega, by decide⟩, tape, fun v p h0 => absurd v11 h0, v13⟩
  refine Ends.eq (b104_25 l1 (by omega)) ?_
  refine Ends.cvx l1 (by decide +kernel) (c_fmCheck0 (p := 0) l1 (by omega) F R1 TkR.z (Nat.zero_le m) D (by omega) v11) (fun h8 l8 _ _ ⟨X, N, P, er, g8, R8, hP1, hP2⟩ => ?_) (fun x8 h8 l8 _ _ ⟨e, hq, er, g8, w⟩ => ?_)
  · have G8 : Agr (dfW B) h h8 := G1.tr g8 (fun c z w => by unfold FW at w; unfold dfW; omega)
    refine Ends.eq (b104_32 l8 (by omega)) ?_
    rw [R8.1]
    by_cases k0 : tkK u m P = 0
    · rw [k0]
      refine Ends.b0 (fun _ => Ends.sm (K _ _ (Or.inl ⟨m240, ⟨X, N, P, ?_⟩, rfl, G8⟩))) (fun z => absurd rfl z)
      unfold txW
      rw [if_pos m240, er]
      show (if tkK u m P = 0 then _ else _) = _
      rw [if_pos k0]
    · refine Ends.b0 (fun z => absurd (show tkK u m P = 0 by omega) k0) (fun _ => Ends.sm (K _ _ (Or.inr ⟨tkF u m P, ?_, R8.2.1, Or.inl G8⟩)))
      unfold txW
      rw [if_pos m240, er]
      show (if tkK u m P = 0 then _ else _) = _
      rw [if_neg k0]
  · have fwd : ∀ c z, FW B 0 c z → dfW B c z := fun c z w => by unfold FW at w; unfold dfW; omega
    refine Ends.tc w.c rfl ?_
    obtain ⟨w1, w2, w3⟩ := w.kd
    refine Ends.eq (b104_59 l8 (by omega)) ?_
    rw [w3]
    refine Ends.g ⟨w1, w2⟩ (Ends.sm (K _ _ (Or.inr ⟨e, ?_, rfl, Or.inr ⟨hq, x8, G1.tr g8 fwd, w⟩⟩)))
    unfold txW
    rw [if_pos m240, er]
    rfl
/-- what an edit with a text comes to on the desk -/
def TxRd (B : Nat) (h : AH) (r : PR) (x : Int) (h' : AH) (P : AH → Prop) : Prop := (∃ e : Nat, r = .inl e ∧ x = bop32 100 (-1) (e : Int) ∧ (Agr (dfW B) h h' ∨ ∃ h1 y, Agr (dfW B) h h1 ∧ WrX h1 (e : Int) y h')) ∨ ((∃ X N p, r = .inr (X, N, p)) ∧ ∃ h1, Agr (dfW B) h h1 ∧ P h1)
/-- the desk's disc -/
theorem c_disc19 (l : LX B n h) (hd : 440 ≤ d) (S : St B h H t dn tt tu mw) (N : SkN (H dn)) (D : DW (H dn) nv nc) (T : FnB gv B h) (h15 : hv h (B + 0) 15 = (m : Int)) (hm8 : m ≤ 8192) (hbb : ∀ i, hv h (B + 26) i = b i) (hb : ∀ i, i < m → -128 ≤ b i ∧ b i < 128) (hu : ∀ i, u i = b i % 256) (hdn : dn < 100) (htu : tu < 1000000) (hmw : mw + 100 < 1000000) (h11 : hv h (B + 7) 11 = 0) :
    Opx 0 (cll PP (ev PP (gsF gv) B) d 19 [(2, rf (B + 0)), (0, x), (0, y)] h) (fun r h' => diE (H dn 3) (H dn (skA x.toNat + 2)) (H dn (skA x.toNat + 100)) x y = 0 ∧ TxRd B (hset h (B + 0) 15 0) (txW (H dn) nv nc b u m) r h' (fun h1 => r = H dn (skA x.toNat + 100) ∧ EdR B H dn tu mw (dcC (H dn) x.toNat (H dn (skA x.toNat + 100)).toNat y b m) h1 h')) (fun c q => q = hset h (B + 0) 15 0 ∧ ((c = 31 ∧ diE (H dn 3) (H dn (skA x.toNat + 2)) (H dn (skA x.toNat + 100)) x y = 1) ∨ (c = 28 ∧ diE (H dn 3) (H dn (skA x.toNat + 2)) (H dn (skA x.toNat + 100)) x y = 2))) := by
  have hb0 := l.2.2
  have n0 := N.1
  refine Opx.inq (D := 439) hd (Nat.le_of_ble_eq_true rfl) rfl (fun d hd R K KE => ?_)
  refine Ends.eq (b19_0 l (by omega)) ?_
  refine Ends.ct l (by decide +kernel) (by decide) (c_read76 l (by omega)) (fun m' h1 l1 _ _ _ ⟨ex, e1⟩ => ?_)
  rw [h15] at ex
  rw [ex]
  rw [← e1] at K KE
  have g1 : Agr (fun c k => c = B + 0 ∧ k = 15) h h1 := by rw [e1]; exact Agr.rf.set ⟨rfl, rfl⟩
  have J3 := S.1.2.2.1
  have S1 : St B h1 H t dn tt tu mw := S.ext hb0 g1.ext (fun a k w => by omega)
  have J31 := S1.1.2.2.1
  have T1 := T.agr g1 (fun c k hc w => by omega)
  have b1 : ∀ i, hv h1 (B + 26) i = b i := fun i => by rw [g1.at _ _ (by omega)]; exact hbb i
  have v11 : hv h1 (B + 7) 11 = 0 := by rw [g1.at _ _ (by omega)]; exact h11
  clear e1
  obtain ⟨a1, a2⟩ := v49_is (x := x) S1 N
  by_cases z : 0 ≤ x ∧ x < H dn 3
  rotate_left
  · have a3 : v49 B h1 x = 0 := by rw [a2, if_neg (fun w => z (of_decide_eq_true w))]
    refine Ends.eq (b19_4 l1 (by omega)) (Ends.g a1 ?_)
    rw [a3]
    refine Ends.g True.intro ?_
    refine Ends.there (p := false) l1 (by omega) rfl (fun h1 => absurd h1 Bool.false_ne_true) (fun _ => Ends.thn rfl (KE 31 h1 ⟨rfl, Or.inl ⟨rfl, ?_⟩⟩))
    unfold diE
    rw [if_pos (by omega)]
  obtain ⟨s, es⟩ : ∃ s : Nat, x = (s : Int) := ⟨x.toNat, by omega⟩
  subst es
  rw [tn] at K KE
  have hs : s < 6 := by omega
  have pb := (N.2 s hs z.2).1
  have db := (N.2 s hs z.2).2.2.1
  obtain ⟨c1, c2⟩ := v48_is (x := y) S1 N hs z.2
  refine Ends.eq (b19_4 l1 (by omega)) (Ends.g a1 (Ends.g (cond_tt True.intro c1) ?_))
  rw [a2, c2, and_is]
  refine Ends.there l1 (by omega) rfl (fun p1 => ?_) (fun p1 => Ends.thn rfl (KE 31 h1 ⟨rfl, Or.inl ⟨rfl, ?_⟩⟩))
  rotate_left
  · unfold diE
    rw [if_pos]
    rcases Bool.and_eq_false_iff.mp p1 with w | w
    · have := of_decide_eq_false w; omega
    · have := of_decide_eq_false w; omega
  rw [Bool.and_eq_true, decide_eq_true_eq, decide_eq_true_eq] at p1
  have ok : ¬ (((s : Int) < 0 ∨ H dn 3 ≤ (s : Int)) ∨ y < 0 ∨ H dn (skA s + 2) ≤ y) := by omega
  obtain ⟨f1, f2⟩ := skc_is (i := 100) S1 hs (by decide)
  refine Ends.eq (b19_30 l1 (by omega)) (Ends.g f1 ?_)
  rw [show v398 B h1 (s : Int) = H dn (skA s + 100) from f2, lt_is]
  refine Ends.state l1 (by omega) rfl (fun p3 => ?_) (fun p3 => Ends.thn rfl (KE 28 h1 ⟨rfl, Or.inr ⟨rfl, ?_⟩⟩))
  rotate_left
  · have := of_decide_eq_false p3
    unfold diE
    rw [if_neg ok, if_pos (by omega)]
  have p3' := of_decide_eq_true p3
  have e0 : diE (H dn 3) (H dn (skA s + 2)) (H dn (skA s + 100)) (s : Int) y = 0 := by
    unfold diE
    rw [if_neg ok, if_neg (by omega)]
  obtain ⟨nd, end_⟩ : ∃ nd : Nat, H dn (skA s + 100) = (nd : Int) := ⟨(H dn (skA s + 100)).toNat, by omega⟩
  refine Ends.eq (b19_51 l1 (by omega)) ?_
  refine Ends.ct l1 (by decide +kernel) (by decide) (c_wrong104 l1 (by omega) S1.2.2.2.2.2.2.2 D T1 hm8 b1 hb hu v11) (fun r h2 l2 _ _ _ res => ?_)
  refine Ends.eq (b19_56 l2 (by omega)) ?_
  rcases res with ⟨m240, tx, er, G⟩ | ⟨e, tx, er, G⟩
  · rw [er]
    refine Ends.b2 (fun _ => ?_) (fun w => absurd w (by decide))
    have S2 : St B h2 H t dn tt tu mw := S1.ext (by have := l1.2.2; omega) G.ext (fun a k w => by unfold dfW; omega)
    refine Ends.ct l2 (by decide +kernel) (by decide) (c_addDisc384 (k := nd) (b := b) l2 (by omega) S2 hs end_ (by omega) (fun i => by rw [G.at _ _ (by unfold dfW; omega)]; exact b1 i) m240 hdn htu hmw) (fun v h3 l3 _ _ _ ⟨ev_, E⟩ => ?_)
    exact Ends.eq (b19_84 l3 (by omega)) (Ends.sm (K _ _ ⟨e0, Or.inr ⟨tx, h2, G, by rw [ev_, end_], by rw [end_, tn]; exact E⟩⟩))
  · rw [er]
    refine Ends.b2 (fun w => absurd w (by omega)) (fun _ => ?_)
    exact Ends.eq (b19_84 l2 (by omega)) (Ends.sm (K _ _ ⟨e0, Or.inl ⟨e, tx, rfl, G⟩⟩))
/-- a point, a line of the desk that is none -/
abbrev ptN (c : Nat → Int) (x p : Int) : Prop := (x < 0 ∨ c 3 ≤ x) ∨ p < 0 ∨ c (skA x.toNat + 2) ≤ p
abbrev lnN (c : Nat → Int) (x y : Int) : Prop := (x < 0 ∨ c 3 ≤ x) ∨ y < 0 ∨ c (skA x.toNat + 27) ≤ y ∨ c (liA x.toNat y.toNat + 2) ≠ 1
abbrev agN (c : Nat → Int) (x kd a b e : Int) : Prop := (kd < 17 ∧ (ptN c x a ∨ 2 ≤ kd ∧ (ptN c x b ∨ 11 ≤ kd ∧ ptN c x e))) ∨ (17 ≤ kd ∧ (lnN c x a ∨ lnN c x b))
def coN (c : Nat → Int) (x kd a b e : Int) : Int := if x < 0 ∨ c 3 ≤ x then 1 else if kd < 0 ∨ 23 < kd then 2 else if agN c x kd a b e then 1 else if c (skA x.toNat + 479) = 32 then 3 else 0
theorem ag_gen2 {pa pb pc la lb : Bool} : cond (tst 2 kd 17) (cond (tst 0 (if pa = true then (1 : Int) else 0) 0) (0 : Int) (cond (tst 2 kd 2) (cond (tst 2 kd 11) (1 : Int) (cond (tst 0 (if pc = true then (1 : Int) else 0) 0) (0 : Int) 1)) (cond (tst 0 (if pb = true then (1 : Int) else 0) 0) (0 : Int) (cond (tst 2 kd 11) (1 : Int) (cond (tst 0 (if pc = true then (1 : Int) else 0) 0) (0 : Int) 1))))) (cond (tst 0 (if la = true then (1 : Int) else 0) 0) (0 : Int) (cond (tst 0 (if lb = true then (1 : Int) else 0) 0) (0 : Int) 1)) = if decide (¬ ((kd < 17 ∧ (pa = false ∨ 2 ≤ kd ∧ (pb = false ∨ 11 ≤ kd ∧ pc = false))) ∨ (17 ≤ kd ∧ (la = false ∨ lb = false)))) = true then 1 else 0 := by
  simp only [ct0, ct2]
  by_cases k17 : kd < 17
  · have k17' : ¬ 17 ≤ kd := by omega
    by_cases k2 : kd < 2
    · have k2' : ¬ 2 ≤ kd := by omega
      have k11 : kd < 11 := by omega
      cases pa <;> simp [k17, k17', k2, k2', k11]
    · have k2' : 2 ≤ kd := by omega
      by_cases k11 : kd < 11
      · have k11' : ¬ 11 ≤ kd := by omega
        cases pa <;> cases pb <;> simp [k17, k17', k2, k2', k11, k11']
      · have k11' : 11 ≤ kd := by omega
        cases pa <;> cases pb <;> cases pc <;> simp [k17, k17', k2, k2', k11, k11']
  · have k17' : 17 ≤ kd := by omega
    cases la <;> cases lb <;> simp [k17, k17']
theorem v411_any (S : St B h H t dn tt tu mw) (N : SkN (H dn)) (hs : s < 6) (hs3 : (s : Int) < H dn 3) : q411 B h (s : Int) x ∧ v411 B h (s : Int) x = if decide (0 ≤ x ∧ x < H dn (skA s + 27) ∧ H dn (liA s x.toNat + 2) = 1) = true then 1 else 0 := by
  obtain ⟨a1, a2⟩ := skc_is (i := 27) S hs (by decide)
  have lb := (N.2 s hs hs3).2.1
  unfold q411 v411 q419
  rw [show v419 B h (s : Int) = H dn (skA s + 27) from a2, ct2, ct3, ct2, ct3, ct1]
  by_cases z1 : x < 0
  · rw [if_pos z1, if_pos z1, if_neg (fun w => by have := of_decide_eq_true w; omega)]; exact ⟨True.intro, rfl⟩
  · rw [if_neg z1, if_neg z1]
    by_cases z2 : x < H dn (skA s + 27)
    · rw [if_pos z2, if_pos z2]
      obtain ⟨k, ek⟩ : ∃ k : Nat, x = (k : Int) := ⟨x.toNat, by omega⟩
      subst ek
      have k24 : k < 24 := by omega
      have sb : liA s k + 2 < 37368 := by unfold liA skA; omega
      have e1 : bop32 96 (v418 (s : Int) (k : Int)) 2 = ((liA s k + 2 : Nat) : Int) := by rw [v418_is hs k24]; exact i_k (i := 2) (by omega) (by omega)
      obtain ⟨c1, c2⟩ := ix_is (i := liA s k + 2) S sb
      rw [e1, c2, tn]
      refine ⟨⟨a1, c1⟩, ?_⟩
      by_cases z3 : H dn (liA s k + 2) = 1
      · rw [if_pos z3, if_pos (decide_eq_true ⟨by omega, z2, z3⟩)]
      · rw [if_neg z3, if_neg (fun w => z3 (of_decide_eq_true w).2.2)]
    · rw [if_neg z2, if_neg z2, if_neg (fun w => z2 (of_decide_eq_true w).2.1)]; exact ⟨⟨a1, True.intro⟩, rfl⟩
/-- constrain, up to the text -/
theorem e_con17 {R : Rs → Prop} {mm : Int} {u6 u7 u8 : AV} (l : LX B n h) (hd : 20 ≤ d) (S : St B h H t dn tt tu mw) (N : SkN (H dn))
    (KE : ∀ q, ((q = 31 ∧ coN (H dn) x kd x3 x4 x5 = 1) ∨ (q = 27 ∧ coN (H dn) x kd x3 x4 x5 = 2) ∨ (q = 28 ∧ coN (H dn) x kd x3 x4 x5 = 3)) → R ((1, (2, rf (hnx h))), hnew h (1, q) 6))
    (K : coN (H dn) x kd x3 x4 x5 = 0 → ∀ (x7 : Int) (u8 : AV), Ends (ev PP (gsF gv) B d 12 151 [(2, rf (B + 0)), (0, x), (0, kd), (0, x3), (0, x4), (0, x5), (0, mm), (0, x7), u8] [] h) R) :
    Ends (ev PP (gsF gv) B d 12 17 [(2, rf (B + 0)), (0, x), (0, kd), (0, x3), (0, x4), (0, x5), u6, u7, u8] [(0, mm)] h) R := by
  have n0 := N.1
  obtain ⟨a1, a2⟩ := v49_is (x := x) S N
  refine Ends.eq (b12_17 l (by omega)) (Ends.g a1 ?_)
  rw [a2]
  refine Ends.there l (by omega) rfl (fun p1 => ?_) (fun p1 => Ends.thn rfl (KE 31 (Or.inl ⟨rfl, ?_⟩)))
  rotate_left
  · have := of_decide_eq_false p1
    unfold coN
    rw [if_pos (by omega)]
  have p1' := of_decide_eq_true p1
  obtain ⟨s, es⟩ : ∃ s : Nat, x = (s : Int) := ⟨x.toNat, by omega⟩
  subst es
  have hs : s < 6 := by omega
  have sk0 : ¬ ((s : Int) < 0 ∨ H dn 3 ≤ (s : Int)) := by omega
  have kb := (N.2 s hs p1'.2).2.2.2
  refine Ends.eq (b12_27 l (by omega)) ?_
  rw [in_is]
  refine Ends.need l (by omega) rfl (fun p2 => ?_) (fun p2 => Ends.thn rfl (KE 27 (Or.inr (Or.inl ⟨rfl, ?_⟩))))
  rotate_left
  · have := of_decide_eq_false p2
    unfold coN
    rw [if_neg sk0, if_pos (by omega)]
  have p2' := of_decide_eq_true p2
  have kd0 : ¬ (kd < 0 ∨ 23 < kd) := by omega
  obtain ⟨c1, c2⟩ := v48_is (x := x3) S N hs p1'.2
  obtain ⟨e1, e2⟩ := v48_is (x := x4) S N hs p1'.2
  obtain ⟨f1, f2⟩ := v48_is (x := x5) S N hs p1'.2
  obtain ⟨i1, i2⟩ := v411_any (x := x3) S N hs p1'.2
  obtain ⟨j1, j2⟩ := v411_any (x := x4) S N hs p1'.2
  have ag : ((kd < 17 ∧ (decide (0 ≤ x3 ∧ x3 < H dn (skA s + 2)) = false ∨ 2 ≤ kd ∧ (decide (0 ≤ x4 ∧ x4 < H dn (skA s + 2)) = false ∨ 11 ≤ kd ∧ decide (0 ≤ x5 ∧ x5 < H dn (skA s + 2)) = false))) ∨ (17 ≤ kd ∧ (decide (0 ≤ x3 ∧ x3 < H dn (skA s + 27) ∧ H dn (liA s x3.toNat + 2) = 1) = false ∨ decide (0 ≤ x4 ∧ x4 < H dn (skA s + 27) ∧ H dn (liA s x4.toNat + 2) = 1) = false))) ↔ agN (H dn) (s : Int) kd x3 x4 x5 := by
    rw [decide_eq_false_iff_not, decide_eq_false_iff_not, decide_eq_false_iff_not, decide_eq_false_iff_not, decide_eq_false_iff_not]
    unfold agN ptN lnN
    rw [tn]
    omega
  refine Ends.eq (b12_37 l (by omega)) (Ends.g (cond_tt ⟨c1, cond_tt True.intro (cond_tt (cond_tt True.intro f1) ⟨e1, cond_tt True.intro (cond_tt True.intro f1)⟩)⟩ ⟨i1, cond_tt True.intro j1⟩) ?_)
  rw [c2, e2, f2, i2, j2, ag_gen2]
  refine Ends.there l (by omega) rfl (fun p3 => ?_) (fun p3 => Ends.thn rfl (KE 31 (Or.inl ⟨rfl, ?_⟩)))
  rotate_left
  · have := Classical.not_not.mp (of_decide_eq_false p3)
    unfold coN
    rw [if_neg sk0, if_neg kd0, if_pos (ag.mp this)]
  have p3' := of_decide_eq_true p3
  have ag0 : ¬ agN (H dn) (s : Int) kd x3 x4 x5 := fun w => p3' (ag.mpr w)
  obtain ⟨g1, g2⟩ := skc_is (i := 479) S hs (by decide)
  refine Ends.eq (b12_130 l (by omega)) (Ends.g g1 ?_)
  rw [show v394 B h (s : Int) = H dn (skA s + 479) from g2, lt_is]
  refine Ends.state l (by omega) rfl (fun p4 => ?_) (fun p4 => Ends.thn rfl (KE 28 (Or.inr (Or.inr ⟨rfl, ?_⟩))))
  rotate_left
  · have := of_decide_eq_false p4
    unfold coN
    rw [if_neg sk0, if_neg kd0, if_neg ag0, tn, if_pos (by omega)]
  have p4' := of_decide_eq_true p4
  refine K ?_ _ _
  unfold coN
  rw [if_neg sk0, if_neg kd0, if_neg ag0, tn, if_neg (by omega)]
theorem coN_0 (z : coN c x kd x3 x4 x5 = 0) : ¬ (x < 0 ∨ c 3 ≤ x) ∧ ¬ (kd < 0 ∨ 23 < kd) ∧ c (skA x.toNat + 479) ≠ 32 := by
  unfold coN at z
  by_cases y0 : x < 0 ∨ c 3 ≤ x
  · rw [if_pos y0] at z; omega
  · rw [if_neg y0] at z
    by_cases k : kd < 0 ∨ 23 < kd
    · rw [if_pos k] at z; omega
    · rw [if_neg k] at z
      refine ⟨y0, k, fun y => ?_⟩
      by_cases a : agN c x kd x3 x4 x5
      · rw [if_pos a] at z; omega
      · rw [if_neg a, if_pos y] at z; omega
/-- the desk's constraint without a number -/
theorem c_cons12N (l : LX B n h) (hd : 40 ≤ d) (S : St B h H t dn tt tu mw) (N : SkN (H dn)) (hk6 : ¬ (0 ≤ kd ∧ kd ≤ 5)) (hdn : dn < 100) (htu : tu < 1000000) (hmw : mw + 100 < 1000000) :
    Opx 0 (cll PP (ev PP (gsF gv) B) d 12 [(2, rf (B + 0)), (0, x), (0, kd), (0, x3), (0, x4), (0, x5)] h) (fun r h' => coN (H dn) x kd x3 x4 x5 = 0 ∧ r = H dn (skA x.toNat + 479) ∧ EdR B H dn tu mw (cnC (H dn) x.toNat (H dn (skA x.toNat + 479)).toNat kd x3 x4 x5) h h') (fun c q => q = h ∧ ((c = 31 ∧ coN (H dn) x kd x3 x4 x5 = 1) ∨ (c = 27 ∧ coN (H dn) x kd x3 x4 x5 = 2) ∨ (c = 28 ∧ coN (H dn) x kd x3 x4 x5 = 3))) := by
  refine Opx.inq (D := 39) hd (Nat.le_of_ble_eq_true rfl) rfl (fun d hd R K KE => ?_)
  refine Ends.eq (b12_0 l (by omega)) ?_
  rw [v42_in, if_neg hk6]
  refine Ends.b0 (fun _ => ?_) (fun y => absurd rfl y)
  refine e_con17 l (by omega) S N (fun q hq => KE q h ⟨rfl, hq⟩) (fun z x7 u8 => ?_)
  obtain ⟨z1, z2, z3⟩ := coN_0 z
  obtain ⟨s, es⟩ : ∃ s : Nat, x = (s : Int) := ⟨x.toNat, by omega⟩
  subst es
  rw [tn] at K z3
  have n0 := N.1
  have kb := (N.2 s (by omega) (by omega)).2.2.2
  obtain ⟨nk, enk⟩ : ∃ nk : Nat, H dn (skA s + 479) = (nk : Int) := ⟨(H dn (skA s + 479)).toNat, by omega⟩
  rw [enk, tn] at K
  refine Ends.eq (b12_151 l (by omega)) (Ends.b3 (fun _ => ?_) (fun y => absurd y (by omega)))
  refine Ends.eq (b12_175 l (by omega)) ?_
  refine Ends.ct l (by decide +kernel) (by decide) (c_addConstraint383 (k := nk) (m := 0) (b := fun i => hv h (B + 26) i) l (by omega) S (by omega) enk (by omega) (fun _ => rfl) (by omega) hdn htu hmw) (fun v h3 l3 _ _ _ ⟨ev_, E⟩ => ?_)
  rw [if_neg (by omega)] at E
  exact Ends.eq (b12_195 l3 (by omega)) (Ends.sm (K _ _ ⟨z, ev_, E⟩))
/-- the desk's constraint with a number -/
theorem c_cons12T (l : LX B n h) (hd : 440 ≤ d) (S : St B h H t dn tt tu mw) (N : SkN (H dn)) (D : DW (H dn) nv nc) (T : FnB gv B h) (h15 : hv h (B + 0) 15 = (m : Int)) (hm8 : m ≤ 8192) (hbb : ∀ i, hv h (B + 26) i = b i) (hb : ∀ i, i < m → -128 ≤ b i ∧ b i < 128) (hu : ∀ i, u i = b i % 256) (hk6 : 0 ≤ kd ∧ kd ≤ 5) (hdn : dn < 100) (htu : tu < 1000000) (hmw : mw + 100 < 1000000) (h11 : hv h (B + 7) 11 = 0) :
    Opx 0 (cll PP (ev PP (gsF gv) B) d 12 [(2, rf (B + 0)), (0, x), (0, kd), (0, x3), (0, x4), (0, x5)] h) (fun r h' => coN (H dn) x kd x3 x4 x5 = 0 ∧ TxRd B (hset h (B + 0) 15 0) (txW (H dn) nv nc b u m) r h' (fun h1 => r = H dn (skA x.toNat + 479) ∧ EdR B H dn tu mw (txt (cnC (H dn) x.toNat (H dn (skA x.toNat + 479)).toNat kd x3 x4 x5) (coA x.toNat (H dn (skA x.toNat + 479)).toNat + 5) b m) h1 h')) (fun c q => q = hset h (B + 0) 15 0 ∧ ((c = 31 ∧ coN (H dn) x kd x3 x4 x5 = 1) ∨ (c = 27 ∧ coN (H dn) x kd x3 x4 x5 = 2) ∨ (c = 28 ∧ coN (H dn) x kd x3 x4 x5 = 3))) := by
  have hb0 := l.2.2
  refine Opx.inq (D := 439) hd (Nat.le_of_ble_eq_true rfl) rfl (fun d hd R K KE => ?_)
  refine Ends.eq (b12_0 l (by omega)) ?_
  rw [v42_in, if_pos hk6]
  refine Ends.b0 (fun y => absurd y (by decide)) (fun _ => ?_)
  refine Ends.ct l (by decide +kernel) (by decide) (c_read76 l (by omega)) (fun m' h1 l1 _ _ _ ⟨ex, e1⟩ => ?_)
  rw [h15] at ex
  rw [ex]
  rw [← e1] at K KE
  have g1 : Agr (fun c k => c = B + 0 ∧ k = 15) h h1 := by rw [e1]; exact Agr.rf.set ⟨rfl, rfl⟩
  have J3 := S.1.2.2.1
  have S1 : St B h1 H t dn tt tu mw := S.ext hb0 g1.ext (fun a k w => by omega)
  have J31 := S1.1.2.2.1
  have T1 := T.agr g1 (fun c k hc w => by omega)
  have b1 : ∀ i, hv h1 (B + 26) i = b i := fun i => by rw [g1.at _ _ (by omega)]; exact hbb i
  have v11 : hv h1 (B + 7) 11 = 0 := by rw [g1.at _ _ (by omega)]; exact h11
  clear e1
  refine Ends.eq (b12_13 l1 (by omega)) ?_
  refine e_con17 l1 (by omega) S1 N (fun q hq => KE q h1 ⟨rfl, hq⟩) (fun z x7 u8 => ?_)
  obtain ⟨z1, z2, z3⟩ := coN_0 z
  obtain ⟨s, es⟩ : ∃ s : Nat, x = (s : Int) := ⟨x.toNat, by omega⟩
  subst es
  rw [tn] at K z3
  have n0 := N.1
  have kb := (N.2 s (by omega) (by omega)).2.2.2
  obtain ⟨nk, enk⟩ : ∃ nk : Nat, H dn (skA s + 479) = (nk : Int) := ⟨(H dn (skA s + 479)).toNat, by omega⟩
  rw [enk, tn] at K
  refine Ends.eq (b12_151 l1 (by omega)) (Ends.b3 (fun y => absurd y (by omega)) (fun _ => ?_))
  refine Ends.ct l1 (by decide +kernel) (by decide) (c_wrong104 l1 (by omega) S1.2.2.2.2.2.2.2 D T1 hm8 b1 hb hu v11) (fun r h2 l2 _ _ _ res => ?_)
  refine Ends.eq (b12_163 l2 (by omega)) ?_
  rcases res with ⟨m240, tx, er, G⟩ | ⟨e, tx, er, G⟩
  · rw [er]
    refine Ends.b2 (fun _ => ?_) (fun w => absurd w (by decide))
    have S2 : St B h2 H t dn tt tu mw := S1.ext (by have := l1.2.2; omega) G.ext (fun a k w => by unfold dfW; omega)
    refine Ends.eq (b12_175 l2 (by omega)) ?_
    refine Ends.ct l2 (by decide +kernel) (by decide) (c_addConstraint383 (k := nk) (b := b) l2 (by omega) S2 (by omega) enk (by omega) (fun i => by rw [G.at _ _ (by unfold dfW; omega)]; exact b1 i) m240 hdn htu hmw) (fun v h3 l3 _ _ _ ⟨ev_, E⟩ => ?_)
    rw [if_pos (by omega)] at E
    exact Ends.eq (b12_195 l3 (by omega)) (Ends.sm (K _ _ ⟨z, Or.inr ⟨tx, h2, G, ev_, E⟩⟩))
  · rw [er]
    refine Ends.b2 (fun w => absurd w (by omega)) (fun _ => ?_)
    exact Ends.sm (K _ _ ⟨z, Or.inl ⟨e, tx, rfl, G⟩⟩)
end DPUB2
