/-! L3: Formulas.call -/
section CALLF
variable {gv : Nat → Int} {B n a m : Nat} {u c bb : Nat → Int} {nv : Nat} {tl tf : Int} {fd : Nat → Int} {bk : Nat → Bool}
theorem e_arg {Q} {g : Nat} (hA : HA gv B n a m u c bb nv tl tf fd bk g) {d dp q kk mu : Nat} {h : AH} {acc : Dn × (Nat → Bool)} {rr : PR} (e : pS u m fd bk g 0 0 dp q acc = some rr) (l : LX B n h) (F : FC gv B a m u c bb nv tl tf h) (P : FP B m u h q kk dp mu) (hd : 70 + 12 * (24 - dp) + 11 ≤ d) {f x2 : Int} {i : Nat} (hi : i < 100)
    (K : ∀ D N p' h', LX B n h' → rr = .inr (D, N, p') → FR B m u h h' kk mu dp D q p' → Ends (ev PP (gsF gv) B d 186 35 [(2, rf (B + 7)), (0, f), (0, x2), (0, ((i + 1 : Nat) : Int))] [] h') Q) (KE : ∀ e x h', rr = .inl e → XE B h e x h' → Q ((1, (2, x)), h')) :
    Ends (ev PP (gsF gv) B d 186 53 [(2, rf (B + 7)), (0, f), (0, x2), (0, (i : Int))] [] h) Q := by
  refine Ends.eq (b186_53 (n := n) (by (repeat' first | assumption | refine LX.setF _ _ ?_ (by decide +kernel) | refine LX.setS ?_ rfl | refine LX.setA ?_ (by first | assumption | omega))) (by first | assumption | omega)) ?_
  refine Ends.cx (c := 19) l (by decide +kernel) (hA d dp q kk mu h acc rr e l F P hd) (fun x h' ⟨e, _, w⟩ => w.c) rfl (fun h1 l1 _ _ _ ⟨D, N, p1, er, R⟩ => ?_) (fun x h' _ _ ⟨e, er, w⟩ => KE e x h' er w)
  refine Ends.eq (b186_57 (n := n) (by (repeat' first | assumption | refine LX.setF _ _ ?_ (by decide +kernel) | refine LX.setS ?_ rfl | refine LX.setA ?_ (by first | assumption | omega))) (by first | assumption | omega)) ?_
  rw [w_succ (by omega)]
  exact K D N p1 h1 l1 er R
/-- a sign is wanted while formulas are read -/
theorem needF {Q} {d p' s : Nat} {h : AH} {j pc nx : Nat} {L rest : List AV} (hj : pHn PP j pc 19 = some none) (l : LX B n h) (F : FC gv B a m u c bb nv tl tf h) (R : SgT h (B + 8) u m p') (hp : p' ≤ m) (hd : 18 ≤ d)
    (K : ∀ h', LX B n h' → isSg u m p' (s : Int) = true → Agr (sgW (B + 8)) h h' → SgT h' (B + 8) u m (tkT u m p') → Ends (ev PP (gsF gv) B d j nx L rest h') Q) (KE : ∀ x h', isSg u m p' (s : Int) = false → XE B h (tkF u m p') x h' → Q ((1, (2, x)), h')) :
    Ends (aft PP j pc nx L rest (ev PP (gsF gv) B d j) (cll PP (ev PP (gsF gv) B) d 372 [(2, rf (B + 8)), (0, (s : Int))] h)) Q := by
  obtain ⟨s1, s2, s3⟩ := tk_le (u := u) hp
  refine Ends.cx (c := 19) l (by decide +kernel) (c_need l (by omega) F.1.1 (by have := l.2.2; omega) F.1.2.1.t.1 R s2) (fun x h' w => w.2.c) hj (fun h1 l1 _ _ _ ⟨kc, g1, R1⟩ => K h1 l1 (isSg_iff.mpr kc) g1 R1) (fun x h' _ _ ⟨kc, w⟩ => KE x h' ?_ (XE.of w))
  cases q : isSg u m p' (s : Int) with
  | false => rfl
  | true => exact absurd (isSg_iff.mp q) kc
theorem FR.fp {h h' : AH} {k mu dp p p' : Nat} {D : Dn} (R : FR B m u h h' k mu dp D p p') (h2 : 2 * k ≤ p) (hd : dp ≤ 24) (hmu : mu ≤ dp + 1) (ht : TkR u m p') {h'' : AH} (g : Agr (sgW (B + 8)) h' h'') (R2 : SgT h'' (B + 8) u m (tkT u m p')) (k3 : tkK u m p' = 3) : FP B m u h'' (tkT u m p') (k + 1) dp mu := by
  obtain ⟨r1, r2, r3, r4, r5, r6, r7, r8, r9⟩ := R
  obtain ⟨s1, s2, s3⟩ := tk_le (u := u) r9
  have s4 := tk_lt (u := u) (m := m) (p := p') (by omega)
  refine ⟨R2, by rw [g.at _ _ (by unfold sgW; omega)]; exact r3, by rw [g.at _ _ (by unfold sgW; omega)]; exact r4, by rw [g.at _ _ (by unfold sgW; omega)]; exact r5, s2, by omega, hd, hmu, ht.s⟩
def nnF (fw : Nat) : Nat := if fw < 4 then 2 else if fw = 4 then 3 else 1
set_option maxHeartbeats 4000000 in
theorem e_call {g : Nat} (hA : HA gv B n a m u c bb nv tl tf fd bk g) {d dp p2 k mu : Nat} {h : AH} {acc : Dn × (Nat → Bool)} {r : PR} {fw : Nat} (hf : fw ≤ 10) (l : LX B n h) (F : FC gv B a m u c bb nv tl tf h) (P : FP B m u h p2 k dp mu) (hd : 71 + 12 * (24 - dp) ≤ d)
    (hp : (if isSg u m p2 40 then (if 24 ≤ dp then some (.inl (tkF u m (tkT u m p2))) else match pS u m fd bk g 0 0 (dp + 1) (tkT u m p2) acc with
        | none => none
        | some (.inl e) => some (.inl e)
        | some (.inr (D, N, p1)) => if (4 : Int) < (fw : Int) then (if isSg u m p1 41 then some (.inr (fun e => fAlone fw (D e), N, tkT u m p1)) else some (.inl (tkF u m p1)))
          else if isSg u m p1 44 then (match pS u m fd bk g 0 0 (dp + 1) (tkT u m p1) acc with
            | none => none
            | some (.inl e) => some (.inl e)
            | some (.inr (D2, N2, p2)) => if (fw : Int) < 4 then (if isSg u m p2 41 then some (.inr (fun e => fPair fw (D e) (D2 e), orN N N2, tkT u m p2)) else some (.inl (tkF u m p2)))
              else if isSg u m p2 44 then (match pS u m fd bk g 0 0 (dp + 1) (tkT u m p2) acc with
                | none => none
                | some (.inl e) => some (.inl e)
                | some (.inr (D3, N3, p3)) => if isSg u m p3 41 then some (.inr (fun e => fThree (D e) (D2 e) (D3 e), orN N (orN N2 N3), tkT u m p3)) else some (.inl (tkF u m p3))) else some (.inl (tkF u m p2)))
          else some (.inl (tkF u m p1))) else some (.inl (tkF u m p2))) = some r) :
    Vx (cll PP (ev PP (gsF gv) B) d 186 [(2, rf (B + 7)), (0, (fw : Int))] h) (fun h' => ∃ D N p', r = .inr (D, N, p') ∧ FR B m u h h' k mu dp D p2 p') (fun x h' => ∃ e, r = .inl e ∧ XE B h e x h') := by
  have P0 := P
  obtain ⟨P1, P2, P3, P4, P5, P6, P7, P8⟩ := P
  have hm : m ≤ 240 := F.1.2.2.2.2.2.2.2.2.1
  refine Vx.into (D := d - 1) (by omega) (Nat.le_of_ble_eq_true rfl) rfl (fun d' hd' => ?_)
  refine Ends.eq (b186_0 (n := n) (by (repeat' first | assumption | refine LX.setF _ _ ?_ (by decide +kernel) | refine LX.setS ?_ rfl | refine LX.setA ?_ (by first | assumption | omega))) (by first | assumption | omega)) ?_
  refine needF (s := 40) rfl l F P1 P5 (by omega) (fun h1 l1 k40 g1 R1 => ?_) (fun x h' kn w => by
    rw [show isSg u m p2 40 = false from kn] at hp
    exact Or.inr ⟨x, h', rfl, _, (Option.some.inj hp).symm, w⟩)
  rw [show isSg u m p2 40 = true from k40, if_pos rfl] at hp
  obtain ⟨t1, t2, t3⟩ := tk_le (u := u) P5
  have t4 := tk_lt (u := u) (m := m) (p := p2) (by have := (isSg_iff.mp k40).1; omega)
  have G1 : Agr (FW B k) h h1 := g1.sub FW_sg
  have F1 := F.agr l G1
  have a8 : hv h1 (B + 7) 8 = (k : Int) := by rw [g1.at _ _ (by unfold sgW; omega)]; exact P2
  have a9 : hv h1 (B + 7) 9 = (mu : Int) := by rw [g1.at _ _ (by unfold sgW; omega)]; exact P3
  have a10 : hv h1 (B + 7) 10 = (dp : Int) := by rw [g1.at _ _ (by unfold sgW; omega)]; exact P4
  refine Ends.eq (b186_9 (n := n) (by (repeat' first | assumption | refine LX.setF _ _ ?_ (by decide +kernel) | refine LX.setS ?_ rfl | refine LX.setA ?_ (by first | assumption | omega))) (by first | assumption | omega)) ?_
  refine Ends.cx (c := 19) l1 (by decide +kernel) (c_enter l1 (by omega) F1.1.1.1 a10 P7 R1.2.1) (fun x h' w => w.2.c) rfl (fun h2 l2 _ _ _ ⟨dlt, g2, a102⟩ => ?_) (fun x h' _ _ ⟨de, w⟩ => by
    rw [if_pos (by omega)] at hp
    exact Or.inr ⟨x, h', rfl, _, (Option.some.inj hp).symm, ⟨_, (G1.set (FW_f (by omega))).sub (FW_le (Nat.zero_le k)), w⟩⟩)
  rw [if_neg (by omega)] at hp
  have G2 : Agr (FW B k) h h2 := G1.tr g2 (fun c z q => by rw [q.1, q.2]; exact FW_f (by omega))
  have F2 := F.agr l G2
  have R2 : SgT h2 (B + 8) u m (tkT u m p2) := R1.agr g2 (fun z => by omega)
  have FP2 : FP B m u h2 (tkT u m p2) k (dp + 1) mu := ⟨R2, by rw [g2.at _ _ (by omega)]; exact a8, by rw [g2.at _ _ (by omega)]; exact a9, a102, t2, by omega, by omega, by omega, P8.2.s⟩
  refine Ends.eq (b186_13 (n := n) (by (repeat' first | assumption | refine LX.setF _ _ ?_ (by decide +kernel) | refine LX.setS ?_ rfl | refine LX.setA ?_ (by first | assumption | omega))) (by first | assumption | omega)) ?_
  have en : cond (tst 3 (fw : Int) 4) (cond (tst 1 (fw : Int) 4) (1 : Int) 3) 2 = ((nnF fw : Nat) : Int) := by
    unfold nnF
    rw [tst3, tst1]
    by_cases q1 : fw < 4
    · rw [if_pos q1, decide_eq_true (by omega)]; rfl
    · rw [if_neg q1, decide_eq_false (by omega)]
      by_cases q2 : fw = 4
      · rw [if_pos q2, decide_eq_true (by omega)]; rfl
      · rw [if_neg q2, decide_eq_false (by omega)]; rfl
  rw [en]
  clear en
  -- the end: ) and the function
  have fin : ∀ (nn : Nat) (h3 h4 : AH) (j0 q0 p3 : Nat) (DD : Dn), (1 ≤ nn ∧ nn ≤ 3) → LX B n h3 → LX B n h4 → Agr (FW B k) h h3 → FR B m u h3 h4 (k + nn - 1) mu (dp + 1) DD q0 p3 → p2 < q0 → k ≤ k + nn - 1 →
      (∀ h5, Agr (FW B k) h h5 → (∀ i, frA B h5 i = frA B h4 i) → hv h5 (B + 7) 8 = ((k + nn : Nat) : Int) → LX B n h5 → isSg u m p3 41 = true → ∃ X : Fq, (∃ D N, r = .inr (D, N, tkT u m p3) ∧ D (envM B h mu) = X) ∧ FOK X ∧ ∀ (LL : List AV), LL = [(2, rf (B + 7)), (0, (fw : Int)), (0, (nn : Int)), (0, (nn : Int))] → (∀ h6, LX B n h6 → PutR B k h5 X h6 → Ends (ev PP (gsF gv) B d' 186 112 LL [] h6) (fun r' => (∃ h', r' = ((0, (9, 0)), h') ∧ ∃ D N p', r = .inr (D, N, p') ∧ FR B m u h h' k mu dp D p2 p') ∨ ∃ x h', r' = ((1, (2, x)), h') ∧ ∃ e, r = .inl e ∧ XE B h e x h')) → Ends (ev PP (gsF gv) B d' 186 82 LL [] h5) (fun r' => (∃ h', r' = ((0, (9, 0)), h') ∧ ∃ D N p', r = .inr (D, N, p') ∧ FR B m u h h' k mu dp D p2 p') ∨ ∃ x h', r' = ((1, (2, x)), h') ∧ ∃ e, r = .inl e ∧ XE B h e x h')) → (isSg u m p3 41 = false → r = .inl (tkF u m p3)) →
      Ends (ev PP (gsF gv) B d' 186 35 [(2, rf (B + 7)), (0, (fw : Int)), (0, (nn : Int)), (0, (nn : Int))] [] h4) (fun r' => (∃ h', r' = ((0, (9, 0)), h') ∧ ∃ D N p', r = .inr (D, N, p') ∧ FR B m u h h' k mu dp D p2 p') ∨ ∃ x h', r' = ((1, (2, x)), h') ∧ ∃ e, r = .inl e ∧ XE B h e x h') := by
    intro nn h3 h4 j0 q0 p3 DD hnn l3 l4 G3 R hq0 hk1 KK KN
    obtain ⟨r1, r2, r3, r4, r5, r6, r7, r8, r9⟩ := R
    have G4 : Agr (FW B k) h h4 := G3.tr r1 (FW_le hk1)
    refine Ends.eq (b186_35 (n := n) (by (repeat' first | assumption | refine LX.setF _ _ ?_ (by decide +kernel) | refine LX.setS ?_ rfl | refine LX.setA ?_ (by first | assumption | omega))) (by first | assumption | omega)) ?_
    refine Ends.b3 (fun _ => ?_) (fun z => by omega)
    rw [r5, b100_1' (by omega)]
    have l4' : LX B n (hset h4 (B + 7) 10 (dp : Int)) := LX.setF 7 10 l4 (by decide +kernel)
    have G4' : Agr (FW B k) h (hset h4 (B + 7) 10 (dp : Int)) := G4.set (FW_f (by omega))
    have F4 := F.agr l G4'
    refine needF (s := 41) rfl l4' F4 r2.f r9 (by omega) (fun h5 l5 k41 g5 R5 => ?_) (fun x h' kn w => Or.inr ⟨x, h', rfl, _, KN kn, XE.pre G4' w⟩)
    have G5 : Agr (FW B k) h h5 := G4'.tr g5 FW_sg
    have f5 : ∀ i, frA B h5 i = frA B h4 i := fun i => by rw [frA_agr g5 (fun c h1 h2 => by unfold sgW; omega), frA_f]
    have a85 : hv h5 (B + 7) 8 = ((k + nn : Nat) : Int) := by rw [g5.at _ _ (by unfold sgW; omega), hv_set_ne (by omega), r3, show k + nn - 1 + 1 = k + nn by omega]
    obtain ⟨X, ⟨D, N, er, eD⟩, okX, go⟩ := KK h5 G5 f5 a85 l5 k41
    refine go _ rfl (fun h6 l6 W => ?_)
    obtain ⟨w1, w2, w3⟩ := W
    obtain ⟨s1, s2, s3⟩ := tk_le (u := u) r9
    refine Ends.eq (b186_112 (n := n) (by (repeat' first | assumption | refine LX.setF _ _ ?_ (by decide +kernel) | refine LX.setS ?_ rfl | refine LX.setA ?_ (by first | assumption | omega))) (by first | assumption | omega)) ?_
    refine Ends.sm (Or.inl ⟨_, rfl, D, N, _, er, G5.tr w1 FW_pl, R5.agr w1 (fun z => by unfold plW; omega), w2, ?_, ?_, ?_, ?_, by omega, s2⟩)
    · rw [w1.at _ _ (by unfold plW; omega), g5.at _ _ (by unfold sgW; omega), hv_set_ne (by omega)]; exact r4
    · rw [w1.at _ _ (by unfold plW; omega), g5.at _ _ (by unfold sgW; omega)]; exact hv_set_at ..
    · rw [w3, eD]
    · rw [w3]; exact okX
  have hnn : 1 ≤ nnF fw ∧ nnF fw ≤ 3 := by unfold nnF; split <;> (try split) <;> omega
  refine Ends.eq (b186_35 (n := n) (by (repeat' first | assumption | refine LX.setF _ _ ?_ (by decide +kernel) | refine LX.setS ?_ rfl | refine LX.setA ?_ (by first | assumption | omega))) (by first | assumption | omega)) ?_
  refine Ends.b3 (fun z => by omega) (fun _ => Ends.b5 (fun _ => ?_) (fun z => absurd z (by decide)))
  cases e1 : pS u m fd bk g 0 0 (dp + 1) (tkT u m p2) acc with
  | none => rw [e1] at hp; cases hp
  | some rr1 =>
  rw [e1] at hp
  refine e_arg (i := 0) hA e1 l2 F2 FP2 (by omega) (by omega) (fun D N p1 h3 l3 er R3 => ?_) (fun e x h' er w => by
    subst er
    exact Or.inr ⟨x, h', rfl, e, (Option.some.inj hp).symm, XE.pre G2 w⟩)
  subst er
  dsimp only at hp
  have R3' := R3
  obtain ⟨r1, r2, r3, r4, r5, r6, r7, r8, r9⟩ := R3
  have G3 : Agr (FW B k) h h3 := G2.tr r1 (fun _ _ z => z)
  have F3 := F.agr l G3
  have e3k : frA B h3 k = D (envM B h mu) := by rw [r6, envM_agr G2]
  by_cases c1 : 4 < fw
  · have n1 : nnF fw = 1 := by unfold nnF; rw [if_neg (by omega), if_neg (by omega)]
    rw [if_pos (by omega)] at hp
    rw [n1]
    refine fin 1 h2 h3 0 (tkT u m p2) p1 D (by omega) l2 l3 G2 R3' (by omega) (by omega) (fun h5 G5 f5 a85 l5 k41 => ?_) (fun kn => by rw [kn] at hp; exact (Option.some.inj hp).symm)
    rw [k41] at hp
    refine ⟨fAlone fw (frA B h5 k), ⟨_, _, (Option.some.inj hp).symm, ?_⟩, ?_, ?_⟩
    · rw [f5, e3k]
    · exact fAlone_ok (by rw [f5]; exact r7)
    · rintro LL rfl K
      refine Ends.eq (b186_82 (n := n) (by (repeat' first | assumption | refine LX.setF _ _ ?_ (by decide +kernel) | refine LX.setS ?_ rfl | refine LX.setA ?_ (by first | assumption | omega))) (by first | assumption | omega)) ?_
      refine Ends.b1 (fun _ => Ends.b1 (fun _ => ?_) (fun z => absurd z (by decide))) (fun z => absurd z (by decide))
      exact Ends.cv l5 (by decide +kernel) (c_alone (k := k) l5 (by omega) a85 (by omega) (by rw [f5]; exact r7) (by omega) hf) (fun h6 l6 _ _ _ W => K h6 l6 W)
  rw [if_neg (by omega)] at hp
  have n2 : 2 ≤ nnF fw := by unfold nnF; split <;> (try split) <;> omega
  refine Ends.eq (b186_35 (n := n) (by (repeat' first | assumption | refine LX.setF _ _ ?_ (by decide +kernel) | refine LX.setS ?_ rfl | refine LX.setA ?_ (by first | assumption | omega))) (by first | assumption | omega)) ?_
  refine Ends.b3 (fun z => by omega) (fun _ => Ends.b5 (fun z => absurd z (by decide)) (fun _ => ?_))
  refine needF (s := 44) rfl l3 F3 r2 r9 (by omega) (fun h4 l4 k44 g4 R4 => ?_) (fun x h' kn w => by
    rw [show isSg u m p1 44 = false from kn] at hp
    exact Or.inr ⟨x, h', rfl, _, (Option.some.inj hp).symm, XE.pre G3 w⟩)
  rw [show isSg u m p1 44 = true from k44, if_pos rfl] at hp
  have G4 : Agr (FW B k) h h4 := G3.tr g4 FW_sg
  have F4 := F.agr l G4
  have P4' := R3'.fp (by omega) (by omega) (by omega) ((pS_rc g).1 _ _ acc P8.2.s D N p1 e1) g4 R4 (isSg_iff.mp k44).1
  have e4k : frA B h4 k = D (envM B h mu) := by rw [frA_agr g4 (fun c h1 h2 => by unfold sgW; omega)]; exact e3k
  have o4k : FOK (frA B h4 k) := by rw [frA_agr g4 (fun c h1 h2 => by unfold sgW; omega)]; exact r7
  cases e2 : pS u m fd bk g 0 0 (dp + 1) (tkT u m p1) acc with
  | none => rw [e2] at hp; cases hp
  | some rr2 =>
  rw [e2] at hp
  refine e_arg (i := 1) hA e2 l4 F4 P4' (by omega) (by omega) (fun D2 N2 p3 h5 l5 er R5 => ?_) (fun e x h' er w => by
    subst er
    exact Or.inr ⟨x, h', rfl, e, (Option.some.inj hp).symm, XE.pre G4 w⟩)
  subst er
  dsimp only at hp
  have R5' := R5
  obtain ⟨s1, s2, s3, s4, s5, s6, s7, s8, s9⟩ := R5
  have G5 : Agr (FW B k) h h5 := G4.tr s1 (FW_le (by omega))
  have F5 := F.agr l G5
  have e5k : frA B h5 k = D (envM B h mu) := by rw [frA_agr s1 (fun c h1 h2 => by unfold FW; omega)]; exact e4k
  have o5k : FOK (frA B h5 k) := by rw [frA_agr s1 (fun c h1 h2 => by unfold FW; omega)]; exact o4k
  have e5k1 : frA B h5 (k + 1) = D2 (envM B h mu) := by rw [s6, envM_agr G4]
  have tp1 := tk_le (u := u) (m := m) (p := p1) r9
  by_cases c2 : fw < 4
  · have n1 : nnF fw = 2 := by unfold nnF; rw [if_pos c2]
    rw [if_pos (by omega)] at hp
    rw [n1]
    refine fin 2 h4 h5 0 (tkT u m p1) p3 D2 (by omega) l4 l5 G4 R5' (by omega) (by omega) (fun h6 G6 f6 a86 l6 k41 => ?_) (fun kn => by rw [kn] at hp; exact (Option.some.inj hp).symm)
    rw [k41] at hp
    refine ⟨fPair fw (frA B h6 k) (frA B h6 (k + 1)), ⟨_, _, (Option.some.inj hp).symm, ?_⟩, ?_, ?_⟩
    · rw [f6, f6, e5k, e5k1]
    · exact fPair_ok (by rw [f6]; exact o5k) (by rw [f6]; exact s7)
    · rintro LL rfl K
      refine Ends.eq (b186_82 (n := n) (by (repeat' first | assumption | refine LX.setF _ _ ?_ (by decide +kernel) | refine LX.setS ?_ rfl | refine LX.setA ?_ (by first | assumption | omega))) (by first | assumption | omega)) ?_
      refine Ends.b1 (fun _ => Ends.b1 (fun z => absurd rfl z) (fun _ => ?_)) (fun z => absurd z (by decide))
      refine Ends.cv l6 (by decide +kernel) (c_pair (k := k) l6 (by omega) a86 (by omega) (by rw [f6]; exact o5k) (by rw [f6]; exact s7) c2) (fun h7 l7 _ _ _ W => ?_)
      refine Ends.eq (b186_104 (n := n) (by (repeat' first | assumption | refine LX.setF _ _ ?_ (by decide +kernel) | refine LX.setS ?_ rfl | refine LX.setA ?_ (by first | assumption | omega))) (by first | assumption | omega)) ?_
      exact K h7 l7 W
  rw [if_neg (by omega)] at hp
  have n3 : nnF fw = 3 := by unfold nnF; rw [if_neg c2, if_pos (by omega)]
  rw [n3]
  refine Ends.eq (b186_35 (n := n) (by (repeat' first | assumption | refine LX.setF _ _ ?_ (by decide +kernel) | refine LX.setS ?_ rfl | refine LX.setA ?_ (by first | assumption | omega))) (by first | assumption | omega)) ?_
  refine Ends.b3 (fun z => absurd z (by decide)) (fun _ => Ends.b5 (fun z => absurd z (by decide)) (fun _ => ?_))
  refine needF (s := 44) rfl l5 F5 s2 s9 (by omega) (fun h6 l6 k44 g6 R6 => ?_) (fun x h' kn w => by
    rw [show isSg u m p3 44 = false from kn] at hp
    exact Or.inr ⟨x, h', rfl, _, (Option.some.inj hp).symm, XE.pre G5 w⟩)
  rw [show isSg u m p3 44 = true from k44, if_pos rfl] at hp
  have G6 : Agr (FW B k) h h6 := G5.tr g6 FW_sg
  have F6 := F.agr l G6
  have P6' := R5'.fp (by omega) (by omega) (by omega) ((pS_rc g).1 _ _ acc ((pS_rc g).1 _ _ acc P8.2.s D N p1 e1).s D2 N2 p3 e2) g6 R6 (isSg_iff.mp k44).1
  have f6 : ∀ i, frA B h6 i = frA B h5 i := fun i => frA_agr g6 (fun c h1 h2 => by unfold sgW; omega)
  cases e3 : pS u m fd bk g 0 0 (dp + 1) (tkT u m p3) acc with
  | none => rw [e3] at hp; cases hp
  | some rr3 =>
  rw [e3] at hp
  refine e_arg (i := 2) hA e3 l6 F6 P6' (by omega) (by omega) (fun D3 N3 p5 h7 l7 er R7 => ?_) (fun e x h' er w => by
    subst er
    exact Or.inr ⟨x, h', rfl, e, (Option.some.inj hp).symm, XE.pre G6 w⟩)
  subst er
  dsimp only at hp
  have R7' := R7
  obtain ⟨v1, v2, v3, v4, v5, v6, v7, v8, v9⟩ := R7
  have f7 : ∀ i, i < k + 2 → frA B h7 i = frA B h5 i := fun i hi => by rw [frA_agr v1 (fun c h1 h2 => by unfold FW; omega), f6]
  have e7k2 : frA B h7 (k + 2) = D3 (envM B h mu) := by
    have : frA B h7 (k + 1 + 1) = D3 (envM B h6 mu) := v6
    rw [envM_agr G6] at this; exact this
  have tp3 := tk_le (u := u) (m := m) (p := p3) s9
  refine fin 3 h6 h7 0 (tkT u m p3) p5 D3 (by omega) l6 l7 G6 R7' (by omega) (by omega) (fun h8 G8 f8 a88 l8 k41 => ?_) (fun kn => by rw [kn] at hp; exact (Option.some.inj hp).symm)
  rw [k41] at hp
  have w1 : FOK (frA B h8 k) := by rw [f8, f7 _ (by omega)]; exact o5k
  have w2 : FOK (frA B h8 (k + 1)) := by rw [f8, f7 _ (by omega)]; exact s7
  have w3 : FOK (frA B h8 (k + 2)) := by rw [f8]; exact v7
  refine ⟨fThree (frA B h8 k) (frA B h8 (k + 1)) (frA B h8 (k + 2)), ⟨_, _, (Option.some.inj hp).symm, ?_⟩, fThree_ok w1 w2 w3, ?_⟩
  · rw [f8, f8, f8, f7 _ (by omega), f7 _ (by omega), e5k, e5k1, e7k2]
  · rintro LL rfl K
    refine Ends.eq (b186_82 (n := n) (by (repeat' first | assumption | refine LX.setF _ _ ?_ (by decide +kernel) | refine LX.setS ?_ rfl | refine LX.setA ?_ (by first | assumption | omega))) (by first | assumption | omega)) ?_
    refine Ends.b1 (fun z => absurd rfl z) (fun _ => ?_)
    refine Ends.cv l8 (by decide +kernel) (c_three (k := k) l8 (by omega) a88 (by omega) w1 w2 w3) (fun h9 l9 _ _ _ W => ?_)
    refine Ends.eq (b186_91 (n := n) (by (repeat' first | assumption | refine LX.setF _ _ ?_ (by decide +kernel) | refine LX.setS ?_ rfl | refine LX.setA ?_ (by first | assumption | omega))) (by first | assumption | omega)) ?_
    exact K h9 l9 W
end CALLF
