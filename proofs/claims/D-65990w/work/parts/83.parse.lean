/-! L3: Formulas: formula, level, operand: statements; level -/
theorem tk_lt {u : Nat → Int} {m p : Nat} (h : tkK u m p ≠ 0) : tkF u m p < tkT u m p := by
  unfold tkK at h
  unfold tkT
  split at h
  · exact absurd rfl h
  · next c0 =>
    rw [if_neg c0]
    split
    · next hL =>
      have : isW (chr u m (tkF u m p)) = true := by unfold isW; rw [hL]; rfl
      rw [(en_t (P := isW) rfl this).1]
      exact Nat.lt_of_lt_of_le (Nat.lt_succ_self _) en_ge
    · split
      · next hD =>
        have h1 : tkF u m p < nE1 u m (tkF u m p) := by
          unfold nE1
          rw [(en_t (P := isD) rfl hD).1]
          exact Nat.lt_of_lt_of_le (Nat.lt_succ_self _) en_ge
        unfold nE2
        split
        · exact Nat.lt_of_lt_of_le h1 (Nat.le_trans (Nat.le_succ _) en_ge)
        · exact h1
      · split <;> omega
def envZ : Nat → Fq := fun _ => (0, 1, 0, 0)
def envA (B : Nat) (h : AH) : Nat → Fq := fun v => (hv h (B + 15) v, hv h (B + 16) v, hv h (B + 17) v, if hv h (B + 18) v = 0 then 0 else 4)
def envM (B : Nat) (h : AH) (mu : Nat) : Nat → Fq := if hv h (B + 7) 11 = 0 ∨ 0 < mu then envZ else envA B h
theorem envZ_ok (v : Nat) : FOK (envZ v) := by
  have : FOK ((0, 1, 0, 0) : Fq) := Or.inl ⟨rfl, by decide, by decide, by decide, by decide, by decide, by decide, by decide⟩
  exact this
/-- a Wrong at e is thrown, from a state that differs from h by what reading writes -/
def XE (B : Nat) (h : AH) (e : Nat) (x : Int) (h' : AH) : Prop := ∃ h1, Agr (FW B 0) h h1 ∧ WrX h1 (e : Int) x h'
theorem XE.c {B e : Nat} {h h' : AH} {x : Int} (w : XE B h e x h') : (hk h' (ad x)).2 = 19 := by
  obtain ⟨h1, _, w⟩ := w
  exact w.c
theorem XE.pre {B k e : Nat} {h h2 h' : AH} {x : Int} (g : Agr (FW B k) h h2) (w : XE B h2 e x h') : XE B h e x h' := by
  obtain ⟨h1, g1, w⟩ := w
  exact ⟨h1, (g.sub (FW_le (Nat.zero_le k))).tr g1 (fun _ _ z => z), w⟩
theorem XE.of {B e : Nat} {h h' : AH} {x : Int} (w : WrX h (e : Int) x h') : XE B h e x h' := ⟨h, Agr.rf, w⟩
section PARSE
variable (gv : Nat → Int) (B n a m : Nat) (u c bb : Nat → Int) (nv : Nat) (tl tf : Int) (fd : Nat → Int) (bk : Nat → Bool)
/-- what stays while a text is read -/
def FC (h : AH) : Prop := FI gv B h a m u c nv tl ∧ (∀ z, hv h a z = bb z) ∧ (∀ v p : Nat, hv h (B + 7) 11 ≠ 0 → TkR u m p → tkK u m p = 1 → fdN (nmP c bb (tkF u m p) (tkT u m p - tkF u m p)) nv 0 = (v : Int) → FOK (envA B h v)) ∧ hv h (B + 7) 13 = tf
/-- where reading stands -/
def FP (h : AH) (p k dp mu : Nat) : Prop := SgT h (B + 8) u m p ∧ hv h (B + 7) 8 = (k : Int) ∧ hv h (B + 7) 9 = (mu : Int) ∧ hv h (B + 7) 10 = (dp : Int) ∧ p ≤ m ∧ 2 * k ≤ p ∧ dp ≤ 24 ∧ mu ≤ dp + 1 ∧ TkR u m p
/-- a fraction came -/
def FR (h h' : AH) (k mu dp : Nat) (D : Dn) (p p' : Nat) : Prop := Agr (FW B k) h h' ∧ SgT h' (B + 8) u m p' ∧ hv h' (B + 7) 8 = ((k + 1 : Nat) : Int) ∧ hv h' (B + 7) 9 = (mu : Int) ∧ hv h' (B + 7) 10 = (dp : Int) ∧ frA B h' k = D (envM B h mu) ∧ FOK (frA B h' k) ∧ p < p' ∧ p' ≤ m
def HA (g : Nat) : Prop := ∀ (d dp p k mu : Nat) (h : AH) (acc : Dn × (Nat → Bool)) (r : PR), pS u m fd bk g 0 0 dp p acc = some r → LX B n h → FC gv B a m u c bb nv tl tf h → FP B m u h p k dp mu → 70 + 12 * (24 - dp) + 11 ≤ d →
  Vx (cll PP (ev PP (gsF gv) B) d 196 [(2, rf (B + 7))] h) (fun h' => ∃ D N p', r = .inr (D, N, p') ∧ FR B m u h h' k mu dp D p p') (fun x h' => ∃ e, r = .inl e ∧ XE B h e x h')
def HB (g : Nat) : Prop := ∀ (d dp p k mu lst : Nat) (h : AH) (acc : Dn × (Nat → Bool)) (r : PR), pS u m fd bk g 1 (lst : Int) dp p acc = some r → lst ≤ 6 → LX B n h → FC gv B a m u c bb nv tl tf h → FP B m u h p k dp mu → 70 + 12 * (24 - dp) + 4 + (6 - lst) ≤ d →
  Vx (cll PP (ev PP (gsF gv) B) d 206 [(2, rf (B + 7)), (0, (lst : Int))] h) (fun h' => ∃ D N p', r = .inr (D, N, p') ∧ FR B m u h h' k mu dp D p p') (fun x h' => ∃ e, r = .inl e ∧ XE B h e x h')
def HC (g : Nat) : Prop := ∀ (d dp p0 p k mu lst : Nat) (h0 h : AH) (acc : Dn × (Nat → Bool)) (r : PR) (u3 : AV), pS u m fd bk g 2 (lst : Int) dp p acc = some r → lst ≤ 6 → LX B n h → FC gv B a m u c bb nv tl tf h0 → LX B n h0 → 2 * k ≤ p0 → dp ≤ 24 → mu ≤ dp + 1 ∧ TkR u m p → FR B m u h0 h k mu dp acc.1 p0 p → 69 + 12 * (24 - dp) + 4 + (6 - lst) ≤ d →
  Ends (ev PP (gsF gv) B d 206 9 [(2, rf (B + 7)), (0, (lst : Int)), (0, levF u m p), u3] [] h) (fun q => (∃ h', q = ((0, (9, 0)), h') ∧ ∃ D N p', r = .inr (D, N, p') ∧ FR B m u h0 h' k mu dp D p0 p') ∨ ∃ x h', q = ((1, (2, x)), h') ∧ ∃ e, r = .inl e ∧ XE B h0 e x h')
def HD (g : Nat) : Prop := ∀ (d dp p k mu : Nat) (h : AH) (acc : Dn × (Nat → Bool)) (r : PR), pS u m fd bk g 3 0 dp p acc = some r → LX B n h → FC gv B a m u c bb nv tl tf h → FP B m u h p k dp mu → 70 + 12 * (24 - dp) + 3 ≤ d →
  Vx (cll PP (ev PP (gsF gv) B) d 212 [(2, rf (B + 7))] h) (fun h' => ∃ D N p', r = .inr (D, N, p') ∧ FR B m u h h' k mu dp D p p') (fun x h' => ∃ e, r = .inl e ∧ XE B h e x h')
end PARSE
section PARSE2
variable {gv : Nat → Int} {B n a m : Nat} {u c bb : Nat → Int} {nv : Nat} {tl tf : Int} {fd : Nat → Int} {bk : Nat → Bool}
theorem envA_agr {h t : AH} {k : Nat} (g : Agr (FW B k) h t) : envA B t = envA B h := by
  funext v
  unfold envA
  rw [g.at _ _ (by unfold FW; omega), g.at _ _ (by unfold FW; omega), g.at _ _ (by unfold FW; omega), g.at _ _ (by unfold FW; omega)]
theorem envM_agr {h t : AH} {k mu : Nat} (g : Agr (FW B k) h t) : envM B t mu = envM B h mu := by
  unfold envM
  rw [envA_agr g, g.at _ _ (by unfold FW; omega)]
theorem FC.agr {h t : AH} {k : Nat} (F : FC gv B a m u c bb nv tl tf h) (l : LX B n h) (g : Agr (FW B k) h t) : FC gv B a m u c bb nv tl tf t := by
  obtain ⟨n1, n2, n3, n4, n5⟩ := F.1.na l
  refine ⟨F.1.agr l g, fun z => ?_, fun v p hw hp hk hf => ?_, ?_⟩
  · rw [g.at _ _ (by unfold FW; omega)]; exact F.2.1 z
  · rw [envA_agr g]; exact F.2.2.1 v p (by rw [← g.at (B + 7) 11 (by unfold FW; omega)]; exact hw) hp hk hf
  · rw [g.at _ _ (by unfold FW; omega)]; exact F.2.2.2
theorem stepB {g : Nat} (hD : HD gv B n a m u c bb nv tl tf fd bk g) (hC : HC gv B n a m u c bb nv tl tf fd bk g) : HB gv B n a m u c bb nv tl tf fd bk (g + 1) := by
  intro d dp p k mu lst h acc r hp hl l F P hd
  obtain ⟨P1, P2, P3, P4, P5, P6, P7, P8⟩ := P
  have hp : (match pS u m fd bk g 3 0 dp p acc with
      | none => none
      | some (.inl e) => some (.inl e)
      | some (.inr (D, N, p1)) => pS u m fd bk g 2 (lst : Int) dp p1 (D, N)) = some r := hp
  refine Vx.into (D := d - 1) (by omega) (Nat.le_of_ble_eq_true rfl) rfl (fun d' hd' => ?_)
  refine Ends.eq (b206_0 (n := n) (by (repeat' first | assumption | refine LX.setF _ _ ?_ (by decide +kernel) | refine LX.setS ?_ rfl | refine LX.setA ?_ (by first | assumption | omega))) (by first | assumption | omega)) ?_
  cases e3 : pS u m fd bk g 3 0 dp p acc with
  | none => rw [e3] at hp; cases hp
  | some r3 =>
    rw [e3] at hp
    refine Ends.cx (c := 19) l (by decide +kernel) (hD d' dp p k mu h acc r3 e3 l F ⟨P1, P2, P3, P4, P5, P6, P7, P8⟩ (by omega)) (fun x h' ⟨e, _, w⟩ => w.c) rfl (fun h1 l1 _ _ _ ⟨D, N, p1, er, R⟩ => ?_) (fun x h' _ _ ⟨e, er, w⟩ => ?_)
    · subst er
      have R1 := R
      obtain ⟨r1, r2, r3, r4, r5, r6, r7, r8, r9⟩ := R
      refine Ends.eq (b206_4 (n := n) (by (repeat' first | assumption | refine LX.setF _ _ ?_ (by decide +kernel) | refine LX.setS ?_ rfl | refine LX.setA ?_ (by first | assumption | omega))) (by first | assumption | omega)) ?_
      refine Ends.ct l1 (by decide +kernel) (by decide) (c_levelOf l1 (by omega) r2) (fun v q l2 _ _ _ ⟨ev, eh⟩ => ?_)
      subst ev eh
      refine Ends.eq (b206_8 (n := n) (by (repeat' first | assumption | refine LX.setF _ _ ?_ (by decide +kernel) | refine LX.setS ?_ rfl | refine LX.setA ?_ (by first | assumption | omega))) (by first | assumption | omega)) ?_
      exact hC d' dp p p1 k mu lst h q (D, N) r _ hp hl l1 F l P6 P7 ⟨P8.1, (pS_rc g).2.2.2 dp p acc P8.2 D N p1 e3⟩ R1 (by omega)
    · subst er
      exact Or.inr ⟨x, h', rfl, e, (Option.some.inj hp).symm, w⟩
theorem stepC {g : Nat} (hB : HB gv B n a m u c bb nv tl tf fd bk g) (hC : HC gv B n a m u c bb nv tl tf fd bk g) : HC gv B n a m u c bb nv tl tf fd bk (g + 1) := by
  intro d dp p0 p k mu lst h0 h acc r u3 hp hl l F0 l0 hk0 hdp hmu R hd
  have R1 := R
  obtain ⟨r1, r2, r3, r4, r5, r6, r7, r8, r9⟩ := R
  have F := F0.agr l0 r1
  have hm : m ≤ 240 := F.1.2.2.2.2.2.2.2.2.1
  have lr := levF_r u m p
  have hp : (if (lst : Int) ≤ levF u m p then (match pS u m fd bk g 1 (levF u m p + 1) dp (tkT u m p) acc with
      | none => none
      | some (.inl e) => some (.inl e)
      | some (.inr (D, N, p1)) => pS u m fd bk g 2 (lst : Int) dp p1 (fun e => fTwo (tkS u m p) (acc.1 e) (D e), orN acc.2 N)) else some (.inr (acc.1, acc.2, p))) = some r := hp
  refine Ends.eq (b206_9 (n := n) (by (repeat' first | assumption | refine LX.setF _ _ ?_ (by decide +kernel) | refine LX.setS ?_ rfl | refine LX.setA ?_ (by first | assumption | omega))) (by first | assumption | omega)) ?_
  by_cases hl2 : (lst : Int) ≤ levF u m p
  · rw [if_pos hl2] at hp
    refine Ends.b2 (fun z => by omega) (fun _ => ?_)
    obtain ⟨lv, elv⟩ : ∃ lv : Nat, levF u m p = (lv : Int) := ⟨(levF u m p).toNat, by omega⟩
    have k3 : tkK u m p = 3 := by
      unfold levF at elv
      by_cases e : tkK u m p = 3
      · exact e
      · rw [if_neg e] at elv; omega
    obtain ⟨t1, t2, t3⟩ := tk_le (u := u) r9
    have t4 := tk_lt (u := u) (m := m) (p := p) (by omega)
    rw [r2.2.2.2.1]
    refine Ends.cv l (by decide +kernel) (c_sgNext l (by omega) F.1.1 F.1.2.1.t.1 r2.2.2.1 t2) (fun h1 l1 _ _ _ ⟨g1, R2⟩ => ?_)
    have G1 : Agr (FW B (k + 1)) h h1 := g1.sub FW_sg
    have F1 := F.agr l G1
    refine Ends.eq (b206_29 (n := n) (by (repeat' first | assumption | refine LX.setF _ _ ?_ (by decide +kernel) | refine LX.setS ?_ rfl | refine LX.setA ?_ (by first | assumption | omega))) (by first | assumption | omega)) ?_
    rw [elv, show bop32 96 (lv : Int) 1 = ((lv + 1 : Nat) : Int) from b96_1 (by omega)]
    rw [elv] at hp
    have hp : (match pS u m fd bk g 1 ((lv + 1 : Nat) : Int) dp (tkT u m p) acc with
      | none => none
      | some (.inl e) => some (.inl e)
      | some (.inr (D, N, p1)) => pS u m fd bk g 2 (lst : Int) dp p1 (fun e => fTwo (tkS u m p) (acc.1 e) (D e), orN acc.2 N)) = some r := hp
    cases e1 : pS u m fd bk g 1 ((lv + 1 : Nat) : Int) dp (tkT u m p) acc with
    | none => rw [e1] at hp; cases hp
    | some rr =>
      rw [e1] at hp
      have q9 : hv h1 (B + 7) 9 = (mu : Int) := by rw [g1.at _ _ (by unfold sgW; omega)]; exact r4
      have q10 : hv h1 (B + 7) 10 = (dp : Int) := by rw [g1.at _ _ (by unfold sgW; omega)]; exact r5
      have q8 : hv h1 (B + 7) 8 = ((k + 1 : Nat) : Int) := by rw [g1.at _ _ (by unfold sgW; omega)]; exact r3
      refine Ends.cx (c := 19) l1 (by decide +kernel) (hB d dp (tkT u m p) (k + 1) mu (lv + 1) h1 acc rr e1 (by omega) l1 F1 ⟨R2, q8, q9, q10, t2, by omega, hdp, ⟨hmu.1, hmu.2.s⟩⟩ (by omega)) (fun x h' ⟨e, _, w⟩ => w.c) rfl (fun h2 l2 _ _ _ ⟨D, N, p1, er, RR⟩ => ?_) (fun x h' _ _ ⟨e, er, w⟩ => ?_)
      · subst er
        obtain ⟨s1, s2, s3, s4, s5, s6, s7, s8, s9⟩ := RR
        have G2 : Agr (FW B k) h0 h2 := (r1.tr G1 (FW_le (by omega))).tr s1 (FW_le (by omega))
        have fk : frA B h2 k = frA B h k := by
          rw [frA_agr s1 (fun c h1 h2 => by unfold FW; omega), frA_agr g1 (fun c h1 h2 => by unfold sgW; omega)]
        have ok1 : FOK (frA B h2 k) := by rw [fk]; exact r7
        refine Ends.eq (b206_36 (n := n) (by (repeat' first | assumption | refine LX.setF _ _ ?_ (by decide +kernel) | refine LX.setS ?_ rfl | refine LX.setA ?_ (by first | assumption | omega))) (by first | assumption | omega)) ?_
        refine Ends.cv l2 (by decide +kernel) (c_two (k := k) l2 (by omega) s3 (by omega) ok1 s7) (fun h3 l3 _ _ _ ⟨w1, w2, w3⟩ => ?_)
        have s2' : SgT h3 (B + 8) u m p1 := s2.agr w1 (fun z => by unfold plW; omega)
        refine Ends.eq (b206_41 (n := n) (by (repeat' first | assumption | refine LX.setF _ _ ?_ (by decide +kernel) | refine LX.setS ?_ rfl | refine LX.setA ?_ (by first | assumption | omega))) (by first | assumption | omega)) ?_
        refine Ends.ct l3 (by decide +kernel) (by decide) (c_levelOf l3 (by omega) s2') (fun v q l4 _ _ _ ⟨ev, eh⟩ => ?_)
        subst ev eh
        refine Ends.eq (b206_45 (n := n) (by (repeat' first | assumption | refine LX.setF _ _ ?_ (by decide +kernel) | refine LX.setS ?_ rfl | refine LX.setA ?_ (by first | assumption | omega))) (by first | assumption | omega)) ?_
        refine hC d dp p0 p1 k mu lst h0 q _ r _ hp hl l3 F0 l0 hk0 hdp ⟨hmu.1, (pS_rc g).2.1 _ dp _ acc hmu.2.s D N p1 e1⟩ ⟨G2.tr w1 FW_pl, s2', w2, ?_, ?_, ?_, ?_, by omega, s9⟩ hd
        · rw [w1.at _ _ (by unfold plW; omega)]; exact s4
        · rw [w1.at _ _ (by unfold plW; omega)]; exact s5
        · rw [w3, fk, r6, s6, envM_agr G1, envM_agr r1]
        · rw [w3]; exact fTwo_ok ok1 s7
      · subst er
        exact Or.inr ⟨x, h', rfl, e, (Option.some.inj hp).symm, XE.pre r1 (XE.pre G1 w)⟩
  · rw [if_neg hl2] at hp
    refine Ends.b2 (fun _ => Ends.sm (Or.inl ⟨_, rfl, acc.1, acc.2, p, (Option.some.inj hp).symm, R1⟩)) (fun z => by omega)
end PARSE2
