/-! L3: Formulas: word, operand; all of a formula -/
theorem fdN_r (P : Nat → Prop) : ∀ (k v : Nat), fdN P k v = -1 ∨ ((v : Int) ≤ fdN P k v ∧ fdN P k v < ((v + k : Nat) : Int))
  | 0, v => Or.inl rfl
  | k + 1, v => by
    unfold fdN
    by_cases h : P v
    · rw [itP_t h]; right; omega
    · rw [itP_f h]
      rcases fdN_r P k (v + 1) with e | e
      · exact Or.inl e
      · right; omega
theorem fnI_r (u : Nat → Int) (m p : Nat) : ∀ (L : List (List Int)) (i : Int), fnI u m p L i = -1 ∨ (i ≤ fnI u m p L i ∧ fnI u m p L i < i + L.length)
  | [], i => Or.inl rfl
  | s :: r, i => by
    unfold fnI
    by_cases h : isWd u m p s
    · rw [itP_t h]; right
      simp only [List.length_cons]; omega
    · rw [itP_f h]
      rcases fnI_r u m p r (i + 1) with e | e
      · exact Or.inl e
      · right
        simp only [List.length_cons]; omega
theorem fnW_r (u : Nat → Int) (m p : Nat) : -1 ≤ fnW u m p ∧ fnW u m p ≤ 10 := by
  have h := fnI_r u m p fnS 0
  have e : (fnS.length : Int) = 11 := rfl
  unfold fnW
  rcases h with h | h <;> omega
section OPERAND
variable {gv : Nat → Int} {B n a m : Nat} {u c bb : Nat → Int} {nv : Nat} {tl tf : Int} {fd : Nat → Int} {bk : Nat → Bool}
/-- what comesBack answers (bk), wanted where a VALUE is told -/
def CBk (gv : Nat → Int) (B n a m : Nat) (u c bb : Nat → Int) (nv : Nat) (tl tf : Int) (bk : Nat → Bool) : Prop := (tl < 0 → ∀ v, bk v = false) ∧ ∀ (d p v : Nat) (h : AH), 60 ≤ d → LX B n h → FC gv B a m u c bb nv tl tf h → SgT h (B + 8) u m p → tkK u m p = 1 → p ≤ m → v < nv → 0 ≤ tl → Vt 0 (cll PP (ev PP (gsF gv) B) d 189 [(2, rf (B + 7)), (0, (v : Int))] h) (fun x h' => x = b2i (bk v) ∧ Agr (fun c _ => c = B + 21 ∨ c = B + 22) h h')
theorem tk_w12 {p : Nat} (h : tkK u m p = 1) : tkT u m p - tkF u m p ≤ 12 := by
  unfold tkK at h
  unfold tkT
  split at h
  · omega
  next c0 =>
  rw [if_neg c0]
  split at h
  · next hL =>
    rw [if_pos hL]
    split at h
    · assumption
    · omega
  · split at h
    · split at h <;> omega
    · omega
set_option maxHeartbeats 4000000 in
theorem e_word {g : Nat} (hA : HA gv B n a m u c bb nv tl tf fd bk g) (hfd : ∀ p, fd p = fdN (nmP c bb (tkF u m p) (tkT u m p - tkF u m p)) nv 0) (cb : CBk gv B n a m u c bb nv tl tf bk) {d dp p k mu : Nat} {h : AH} {acc : Dn × (Nat → Bool)} {r : PR} (l : LX B n h) (F : FC gv B a m u c bb nv tl tf h) (P : FP B m u h p k dp mu) (k1 : tkK u m p = 1) (hd : 73 + 12 * (24 - dp) ≤ d + 1)
    (hp : pS u m fd bk (g + 1) 3 0 dp p acc = some r) (s45 : isSg u m p 45 = false) (s33 : isSg u m p 33 = false) (s40 : isSg u m p 40 = false) :
    Vx (cll PP (ev PP (gsF gv) B) d 221 [(2, rf (B + 7))] h) (fun h' => ∃ D N p', r = .inr (D, N, p') ∧ FR B m u h h' k mu dp D p p') (fun x h' => ∃ e, r = .inl e ∧ XE B h e x h') := by
  have P0 := P
  obtain ⟨P1, P2, P3, P4, P5, P6, P7, P8⟩ := P
  have hm : m ≤ 240 := F.1.2.2.2.2.2.2.2.2.1
  obtain ⟨t1, t2, t3⟩ := tk_le (u := u) P5
  have t4 := tk_lt (u := u) (m := m) (p := p) (by omega)
  have fr := fnW_r u m p
  unfold pS at hp
  rw [if_neg (by decide), if_neg (by decide), if_neg (by decide), s45, s33, s40] at hp
  rw [show (false || false) = false from rfl, if_neg (by decide), if_neg (by decide), if_neg (by omega), if_pos k1] at hp
  refine Vx.into (D := d - 1) (by omega) (Nat.le_of_ble_eq_true rfl) rfl (fun d' hd' => ?_)
  refine Ends.eq (b221_0 (n := n) (by (repeat' first | assumption | refine LX.setF _ _ ?_ (by decide +kernel) | refine LX.setS ?_ rfl | refine LX.setA ?_ (by first | assumption | omega))) (by first | assumption | omega)) ?_
  refine Ends.ct l (by decide +kernel) (by decide) (c_function l (by omega) F.1.1 F.1.2.1.t P1 P5 F.1.2.2.2.1) (fun v q l1 _ _ _ ⟨ev, eh⟩ => ?_)
  subst ev eh
  refine Ends.eq (b221_4 (n := n) (by (repeat' first | assumption | refine LX.setF _ _ ?_ (by decide +kernel) | refine LX.setS ?_ rfl | refine LX.setA ?_ (by first | assumption | omega))) (by first | assumption | omega)) ?_
  by_cases hf : 0 ≤ fnW u m p
  · rw [if_pos hf] at hp
    refine Ends.b2 (fun z => by omega) (fun _ => ?_)
    refine Ends.cv l (by decide +kernel) (c_sgNext l (by omega) F.1.1 F.1.2.1.t.1 P1.2.2.1 t2) (fun h1 l1 _ _ _ ⟨g1, R1⟩ => ?_)
    have G1 : Agr (FW B k) q h1 := g1.sub FW_sg
    have F1 := F.agr l G1
    obtain ⟨fw, efw⟩ : ∃ fw : Nat, fnW u m p = (fw : Int) := ⟨(fnW u m p).toNat, by omega⟩
    rw [efw] at hp ⊢
    refine Ends.eq (b221_16 (n := n) (by (repeat' first | assumption | refine LX.setF _ _ ?_ (by decide +kernel) | refine LX.setS ?_ rfl | refine LX.setA ?_ (by first | assumption | omega))) (by first | assumption | omega)) ?_
    have FP1 : FP B m u h1 (tkT u m p) k dp mu := ⟨R1, by rw [g1.at _ _ (by unfold sgW; omega)]; exact P2, by rw [g1.at _ _ (by unfold sgW; omega)]; exact P3, by rw [g1.at _ _ (by unfold sgW; omega)]; exact P4, t2, by omega, P7, P8.1, P8.2.s⟩
    refine Ends.cx (c := 19) l1 (by decide +kernel) (e_call (fw := fw) hA (by omega) l1 F1 FP1 (by omega) hp) (fun x h' ⟨e, _, w⟩ => w.c) rfl (fun h2 l2 _ _ _ ⟨D, N, p', er, R⟩ => ?_) (fun x h' _ _ ⟨e, er, w⟩ => Or.inr ⟨x, h', rfl, e, er, XE.pre G1 w⟩)
    obtain ⟨r1, r2, r3, r4, r5, r6, r7, r8, r9⟩ := R
    refine Ends.eq (b221_21 (n := n) (by (repeat' first | assumption | refine LX.setF _ _ ?_ (by decide +kernel) | refine LX.setS ?_ rfl | refine LX.setA ?_ (by first | assumption | omega))) (by first | assumption | omega)) ?_
    exact Ends.sm (Or.inl ⟨_, rfl, D, N, p', er, G1.tr r1 (fun _ _ z => z), r2, r3, r4, r5, by rw [r6, envM_agr G1], r7, by omega, r9⟩)
  · rw [if_neg hf] at hp
    refine Ends.b2 (fun _ => ?_) (fun z => by omega)
    obtain ⟨N, kN, hN, hN2⟩ := F.1.2.2.2.2.2.2.2.2.2
    have w12 := tk_w12 (u := u) (m := m) (p := p) k1
    have h4 : hv q (B + 8) 4 = ((tkF u m p + (tkT u m p - tkF u m p) : Nat) : Int) := by rw [P1.2.2.1, show tkF u m p + (tkT u m p - tkF u m p) = tkT u m p by omega]
    have eb : hv q a = bb := funext F.2.1
    refine Ends.ct l (by decide +kernel) (by decide) (c_find (c := c) (nv := nv) l (by omega) P1.2.1 h4 F.1.1.2.1 kN (by omega) hN2 w12 F.1.2.2.2.2.1 F.1.2.2.2.2.2.1 F.1.2.2.2.2.2.2.1) (fun v q2 l2 _ _ _ ⟨ev, eh⟩ => ?_)
    subst eh
    rw [eb, ← hfd p] at ev
    subst ev
    have rg : fd p = -1 ∨ (0 ≤ fd p ∧ fd p < (nv : Int)) := by
      have := fdN_r (nmP c bb (tkF u m p) (tkT u m p - tkF u m p)) nv 0
      rw [← hfd p] at this
      rcases this with e | e
      · exact Or.inl e
      · right; omega
    have hnv : nv ≤ 40 := F.1.2.2.2.2.2.2.1
    have hb := l.2.2
    have thrW : ∀ (pc : Nat) (x1 x2 : Int), (pc = 38 ∨ pc = 61) → r = .inl (tkF u m p) → ∀ (h1 : AH), LX B n h1 → Agr (FW B k) q2 h1 → SgT h1 (B + 8) u m p → ∀ (v : Int) (h2 : AH), v = rf (hnx h1) ∧ h2 = wrg h1 (tkF u m p : Int) → LX B n h2 → Ends (ev PP (gsF gv) B d' 221 pc [(2, rf (B + 7)), (0, x1), (0, x2)] [(2, v)] h2) (fun r' => (∃ h', r' = ((0, (9, 0)), h') ∧ ∃ D N p', r = .inr (D, N, p') ∧ FR B m u q2 h' k mu dp D p p') ∨ ∃ x h', r' = ((1, (2, x)), h') ∧ ∃ e, r = .inl e ∧ XE B q2 e x h') := by
      intro pc x1 x2 hpc er h1 l1 G1 R1 v h2 ⟨e1, e2⟩ l2
      subst e1
      have w : WrX h1 (tkF u m p : Int) (rf (hnx h1)) h2 := ⟨rfl, e2⟩
      have kk : (hk h2 (ad (rf (hnx h1)))).1 = 1 := by
        rw [ad_rf, e2]
        show (hk (hnew h1 (1, 19) 7) (hnx h1)).1 = 1
        rw [hk_new, if_pos rfl]
      rcases hpc with rfl | rfl
      · refine Ends.eq (b221_38 (n := n) (by (repeat' first | assumption | refine LX.setF _ _ ?_ (by decide +kernel) | refine LX.setS ?_ rfl | refine LX.setA ?_ (by first | assumption | omega))) (by first | assumption | omega)) ?_
        exact Ends.g ⟨rf_pos _, kk⟩ (Ends.th w.c rfl (Or.inr ⟨_, _, rfl, _, er, XE.pre G1 (XE.of w)⟩))
      · refine Ends.eq (b221_61 (n := n) (by (repeat' first | assumption | refine LX.setF _ _ ?_ (by decide +kernel) | refine LX.setS ?_ rfl | refine LX.setA ?_ (by first | assumption | omega))) (by first | assumption | omega)) ?_
        exact Ends.g ⟨rf_pos _, kk⟩ (Ends.th w.c rfl (Or.inr ⟨_, _, rfl, _, er, XE.pre G1 (XE.of w)⟩))
    refine Ends.eq (b221_26 (n := n) (by (repeat' first | assumption | refine LX.setF _ _ ?_ (by decide +kernel) | refine LX.setS ?_ rfl | refine LX.setA ?_ (by first | assumption | omega))) (by first | assumption | omega)) ?_
    by_cases hv0 : fd p < 0
    · rw [if_pos hv0] at hp
      refine Ends.b3 (fun z => by omega) (fun _ => ?_)
      refine Ends.ct l (by decide +kernel) (by decide) (c_wrong l (by omega) F.1.1.1 (by omega) P1.2.1) (fun v h2 l2 _ _ _ W => ?_)
      exact thrW 38 _ _ (Or.inl rfl) (Option.some.inj hp).symm q2 l Agr.rf P1 v h2 W l2
    rw [if_neg hv0] at hp
    obtain ⟨v, evn⟩ : ∃ v : Nat, fd p = (v : Int) := ⟨(fd p).toNat, by omega⟩
    have hvn : v < nv := by omega
    rw [evn, tn] at hp
    rw [evn]
    refine Ends.b3 (fun _ => ?_) (fun z => by omega)
    -- the name counts
    have good : bk v = false → ∀ (x1 : Int) (h1 : AH), LX B n h1 → Agr (fun c _ => c = B + 21 ∨ c = B + 22) q2 h1 → Ends (ev PP (gsF gv) B d' 221 62 [(2, rf (B + 7)), (0, x1), (0, (v : Int))] [] h1) (fun r' => (∃ h', r' = ((0, (9, 0)), h') ∧ ∃ D N p', r = .inr (D, N, p') ∧ FR B m u q2 h' k mu dp D p p') ∨ ∃ x h', r' = ((1, (2, x)), h') ∧ ∃ e, r = .inl e ∧ XE B q2 e x h') := by
      intro hb0 x1 h1 l1 G0
      have G1 : Agr (FW B k) q2 h1 := G0.sub (fun c z q => by unfold FW; omega)
      have R1 : SgT h1 (B + 8) u m p := P1.agr G0 (fun z => by omega)
      have e8 : hv h1 (B + 7) 8 = (k : Int) := by rw [G0.at _ _ (by omega)]; exact P2
      have e9 : hv h1 (B + 7) 9 = (mu : Int) := by rw [G0.at _ _ (by omega)]; exact P3
      have e10 : hv h1 (B + 7) 10 = (dp : Int) := by rw [G0.at _ _ (by omega)]; exact P4
      rw [hb0] at hp
      have er : r = .inr (fun e => e v, fun w => decide (w = v), tkT u m p) := (Option.some.inj hp).symm
      refine Ends.eq (b221_62 (n := n) (by (repeat' first | assumption | refine LX.setF _ _ ?_ (by decide +kernel) | refine LX.setS ?_ rfl | refine LX.setA ?_ (by first | assumption | omega))) (by first | assumption | omega)) ?_
      generalize bop64 129 (hv h1 (B + 7) 14) (sop64 121 1 (v : Int)) = W14
      have l1' : LX B n (hset h1 (B + 7) 14 W14) := LX.setF 7 14 l1 (by decide +kernel)
      have G1' : Agr (FW B k) q2 (hset h1 (B + 7) 14 W14) := G1.set (FW_f (by omega))
      have F1 := F.agr l G1'
      refine Ends.cv l1' (by decide +kernel) (c_sgNext l1' (by omega) F1.1.1 F1.1.2.1.t.1 R1.f.2.2.1 t2) (fun h2 l2 _ _ _ ⟨g2, R2⟩ => ?_)
      have G2 : Agr (FW B k) q2 h2 := G1'.tr g2 FW_sg
      have a8 : hv h2 (B + 7) 8 = (k : Int) := by rw [g2.at _ _ (by unfold sgW; omega), hv_set_ne (by omega)]; exact e8
      have a9 : hv h2 (B + 7) 9 = (mu : Int) := by rw [g2.at _ _ (by unfold sgW; omega), hv_set_ne (by omega)]; exact e9
      have a10 : hv h2 (B + 7) 10 = (dp : Int) := by rw [g2.at _ _ (by unfold sgW; omega), hv_set_ne (by omega)]; exact e10
      have endP : ∀ (X : Fq) (h3 : AH), PutR B k h2 X h3 → X = envM B q2 mu v → FOK X → ∃ h', (((0, (9, 0)), h3) : Rs) = ((0, (9, 0)), h') ∧ ∃ D N p', r = .inr (D, N, p') ∧ FR B m u q2 h' k mu dp D p p' := by
        intro X h3 W eX okX
        obtain ⟨w1, w2, w3⟩ := W
        refine ⟨_, rfl, _, _, _, er, G2.tr w1 FW_pl, R2.agr w1 (fun z => by unfold plW; omega), w2, ?_, ?_, ?_, ?_, by omega, t2⟩
        · rw [w1.at _ _ (by unfold plW; omega)]; exact a9
        · rw [w1.at _ _ (by unfold plW; omega)]; exact a10
        · rw [w3, eX]
        · rw [w3]; exact okX
      have zero : hv h2 (B + 7) 11 = 0 ∨ 0 < mu → Ends (ev PP (gsF gv) B d' 221 95 [(2, rf (B + 7)), (0, x1), (0, (v : Int))] [] h2) (fun r' => (∃ h', r' = ((0, (9, 0)), h') ∧ ∃ D N p', r = .inr (D, N, p') ∧ FR B m u q2 h' k mu dp D p p') ∨ ∃ x h', r' = ((1, (2, x)), h') ∧ ∃ e, r = .inl e ∧ XE B q2 e x h') := by
        intro hz
        refine Ends.eq (b221_95 (n := n) (by (repeat' first | assumption | refine LX.setF _ _ ?_ (by decide +kernel) | refine LX.setS ?_ rfl | refine LX.setA ?_ (by first | assumption | omega))) (by first | assumption | omega)) ?_
        refine Ends.cv l2 (by decide +kernel) (c_push (k := k) l2 (by omega) a8 (by omega)) (fun h3 l3 _ _ _ W => ?_)
        refine Ends.eq (b221_103 (n := n) (by (repeat' first | assumption | refine LX.setF _ _ ?_ (by decide +kernel) | refine LX.setS ?_ rfl | refine LX.setA ?_ (by first | assumption | omega))) (by first | assumption | omega)) ?_
        refine Ends.eq (b221_142 (n := n) (by (repeat' first | assumption | refine LX.setF _ _ ?_ (by decide +kernel) | refine LX.setS ?_ rfl | refine LX.setA ?_ (by first | assumption | omega))) (by first | assumption | omega)) ?_
        refine Ends.sm (Or.inl (endP _ h3 W ?_ (envZ_ok v)))
        rw [← envM_agr G2]
        unfold envM
        rw [if_pos hz]
        rfl
      refine Ends.eq (b221_81 (n := n) (by (repeat' first | assumption | refine LX.setF _ _ ?_ (by decide +kernel) | refine LX.setS ?_ rfl | refine LX.setA ?_ (by first | assumption | omega))) (by first | assumption | omega)) ?_
      refine Ends.b0 (fun w0 => zero (Or.inl w0)) (fun w1 => ?_)
      rw [a9]
      refine Ends.b5 (fun le => ?_) (fun gt => zero (Or.inr (by omega)))
      have mu0 : ¬ 0 < mu := by omega
      refine Ends.g ⟨by omega, by omega⟩ ?_
      rw [tn]
      refine Ends.cv l2 (by decide +kernel) (c_push (k := k) l2 (by omega) a8 (by omega)) (fun h3 l3 _ _ _ W => ?_)
      refine Ends.eq (b221_142 (n := n) (by (repeat' first | assumption | refine LX.setF _ _ ?_ (by decide +kernel) | refine LX.setS ?_ rfl | refine LX.setA ?_ (by first | assumption | omega))) (by first | assumption | omega)) ?_
      have eA : envM B q2 mu v = (hv h2 (B + 15) v, hv h2 (B + 16) v, hv h2 (B + 17) v, cond (tst 0 (hv h2 (B + 18) v) 0) (0 : Int) 4) := by
        rw [← envM_agr G2]
        unfold envM
        rw [if_neg (fun z => z.elim (fun y => w1 y) mu0)]
        unfold envA
        by_cases z : hv h2 (B + 18) v = 0
        · rw [z]; rfl
        · rw [if_neg z, show tst 0 (hv h2 (B + 18) v) 0 = false from decide_eq_false z]; rfl
      refine Ends.sm (Or.inl (endP _ h3 W eA.symm ?_))
      rw [← eA]
      unfold envM
      split
      · exact envZ_ok v
      · next hne => exact F.2.2.1 v p (fun e => hne (Or.inl e)) P8.2 k1 (by rw [← hfd p]; exact evn)
    have etl : hv q2 (B + 7) 12 = tl := F.1.2.2.2.2.2.2.2.1
    rw [etl]
    refine Ends.b2 (fun tneg => good (cb.1 tneg v) _ q2 l Agr.rf) (fun tpos => ?_)
    refine Ends.ct l (by decide +kernel) (by decide) (cb.2 d' p v q2 (by omega) l F P1 k1 P5 hvn (by omega)) (fun x h1 l1 _ _ _ ⟨ex, G0⟩ => ?_)
    subst ex
    have G1 : Agr (FW B k) q2 h1 := G0.sub (fun c z q => by unfold FW; omega)
    have R1 : SgT h1 (B + 8) u m p := P1.agr G0 (fun z => by omega)
    have F1 := F.agr l G1
    refine Ends.eq (b221_51 (n := n) (by (repeat' first | assumption | refine LX.setF _ _ ?_ (by decide +kernel) | refine LX.setS ?_ rfl | refine LX.setA ?_ (by first | assumption | omega))) (by first | assumption | omega)) ?_
    cases hb1 : bk v with
    | false => exact Ends.b0 (fun _ => good hb1 _ h1 l1 G0) (fun z => absurd rfl z)
    | true =>
      rw [hb1] at hp
      refine Ends.b0 (fun z => absurd z (by decide)) (fun _ => ?_)
      refine Ends.ct l1 (by decide +kernel) (by decide) (c_wrong l1 (by omega) F1.1.1.1 (by omega) R1.2.1) (fun v' h2 l2 _ _ _ W => ?_)
      exact thrW 61 _ _ (Or.inr rfl) (Option.some.inj hp).symm h1 l1 G1 R1 v' h2 W l2
theorem rel_f {j z : Nat} {h h1 : AH} (l : LX B n h) (rl : Rel foT (mkT j) h h1) (hb : (mkT j).testBit (foT 6 + z) = false) : hv h1 (B + 7) z = hv h (B + 7) z := rl.2 (B + 7) z (by have := l.2.2; omega) (by rw [lk_7 l]; exact hb)
theorem numD_ok {p : Nat} (hp : p ≤ m) (k2 : tkK u m p = 2) : FOK (numD u m p).1 ∧ p < (numD u m p).2 ∧ (numD u m p).2 ≤ m := by
  have ok : nOK u m (tkF u m p) = true := by
    unfold tkK at k2
    split at k2
    · omega
    split at k2
    · split at k2 <;> omega
    split at k2
    · split at k2
      · next z => exact z
      · omega
    · omega
  obtain ⟨⟨a1, a2⟩, b1, b2⟩ := nAb_r ok
  obtain ⟨t1, t2, t3⟩ := tk_le (u := u) hp
  have t0 := tk_lt (u := u) (m := m) (p := p) (by omega)
  obtain ⟨t4, t5, t6⟩ := tk_le (u := u) (p := tkT u m p) t2
  have wd : ∀ s, isWd u m (tkT u m p) s → tkF u m (tkT u m p) < tkT u m (tkT u m p) := fun s w => tk_lt (u := u) (m := m) (p := tkT u m p) (by have := w.1; omega)
  unfold numD
  by_cases w1 : isWd u m (tkT u m p) [109, 109]
  · rw [itP_t w1]
    have := wd _ w1
    exact ⟨FOK.mk (by omega) (by decide) (by decide), by dsimp only; omega, t5⟩
  rw [itP_f w1]
  by_cases w2 : isWd u m (tkT u m p) [99, 109]
  · rw [itP_t w2]
    have := wd _ w2
    exact ⟨FOK.mk (by omega) (by decide) (by decide), by dsimp only; omega, t5⟩
  rw [itP_f w2]
  by_cases w3 : isWd u m (tkT u m p) [105, 110]
  · rw [itP_t w3]
    have := wd _ w3
    exact ⟨FOK.mk (by omega) (by decide) (by decide), by dsimp only; omega, t5⟩
  rw [itP_f w3]
  exact ⟨FOK.mk (by omega) (by decide) (by decide), by dsimp only; omega, t2⟩
set_option maxHeartbeats 4000000 in
/-- an operand -/
theorem stepD {g : Nat} (hA : HA gv B n a m u c bb nv tl tf fd bk g) (hD : HD gv B n a m u c bb nv tl tf fd bk g) (hfd : ∀ p, fd p = fdN (nmP c bb (tkF u m p) (tkT u m p - tkF u m p)) nv 0) (cb : CBk gv B n a m u c bb nv tl tf bk) : HD gv B n a m u c bb nv tl tf fd bk (g + 1) := by
  intro d dp p k mu h acc r hp l F P hd
  have P0 := P
  obtain ⟨P1, P2, P3, P4, P5, P6, P7, P8⟩ := P
  have hm : m ≤ 240 := F.1.2.2.2.2.2.2.2.2.1
  have hb := l.2.2
  obtain ⟨t1, t2, t3⟩ := tk_le (u := u) P5
  have is : ∀ s, v368 (B + 8) h s = if isSg u m p s then 1 else 0 := fun s => by rw [v368_is, P1.1, P1.2.2.2.1, sg_if]
  have hp0 := hp
  unfold pS at hp
  rw [if_neg (by decide), if_neg (by decide), if_neg (by decide)] at hp
  refine Vx.into (D := d - 1) (by omega) (Nat.le_of_ble_eq_true rfl) rfl (fun d' hd' => ?_)
  -- behind a sign that opens: what holds of the heap
  have opn : isSg u m p 45 = true ∨ isSg u m p 33 = true ∨ isSg u m p 40 = true → tkF u m p < tkT u m p := fun z => tk_lt (u := u) (m := m) (p := p) (by rcases z with z | z | z <;> (have := (isSg_iff.mp z).1; omega))
  have sgn : (isSg u m p 45 = true ∨ isSg u m p 33 = true) → Ends (ev PP (gsF gv) B d' 212 24 [(2, rf (B + 7)), (9, 0)] [] h) (fun r' => (∃ h', r' = ((0, (9, 0)), h') ∧ ∃ D N p', r = .inr (D, N, p') ∧ FR B m u h h' k mu dp D p p') ∨ ∃ x h', r' = ((1, (2, x)), h') ∧ ∃ e, r = .inl e ∧ XE B h e x h') := by
    intro hs
    have t4 := opn (hs.elim Or.inl (fun z => Or.inr (Or.inl z)))
    rw [if_pos (by rcases hs with z | z <;> rw [z] <;> simp)] at hp
    refine Ends.eq (b212_24 (n := n) (by (repeat' first | assumption | refine LX.setF _ _ ?_ (by decide +kernel) | refine LX.setS ?_ rfl | refine LX.setA ?_ (by first | assumption | omega))) (by first | assumption | omega)) ?_
    rw [P1.2.2.2.1]
    refine Ends.cv l (by decide +kernel) (c_sgNext l (by omega) F.1.1 F.1.2.1.t.1 P1.2.2.1 t2) (fun h1 l1 _ _ _ ⟨g1, R1⟩ => ?_)
    have G1 : Agr (FW B k) h h1 := g1.sub FW_sg
    have F1 := F.agr l G1
    have a8 : hv h1 (B + 7) 8 = (k : Int) := by rw [g1.at _ _ (by unfold sgW; omega)]; exact P2
    have a9 : hv h1 (B + 7) 9 = (mu : Int) := by rw [g1.at _ _ (by unfold sgW; omega)]; exact P3
    have a10 : hv h1 (B + 7) 10 = (dp : Int) := by rw [g1.at _ _ (by unfold sgW; omega)]; exact P4
    refine Ends.eq (b212_39 (n := n) (by (repeat' first | assumption | refine LX.setF _ _ ?_ (by decide +kernel) | refine LX.setS ?_ rfl | refine LX.setA ?_ (by first | assumption | omega))) (by first | assumption | omega)) ?_
    refine Ends.cx (c := 19) l1 (by decide +kernel) (c_enter l1 (by omega) F1.1.1.1 a10 P7 R1.2.1) (fun x h' w => w.2.c) rfl (fun h2 l2 _ _ _ ⟨dlt, g2, a102⟩ => ?_) (fun x h' _ _ ⟨de, w⟩ => by
      rw [if_pos (by omega)] at hp
      exact Or.inr ⟨x, h', rfl, _, (Option.some.inj hp).symm, ⟨_, (G1.set (FW_f (by omega))).sub (FW_le (Nat.zero_le k)), w⟩⟩)
    rw [if_neg (by omega)] at hp
    have G2 : Agr (FW B k) h h2 := G1.tr g2 (fun c z q => by rw [q.1, q.2]; exact FW_f (by omega))
    have F2 := F.agr l G2
    have R2 : SgT h2 (B + 8) u m (tkT u m p) := R1.agr g2 (fun z => by omega)
    have FP2 : FP B m u h2 (tkT u m p) k (dp + 1) mu := ⟨R2, by rw [g2.at _ _ (by omega)]; exact a8, by rw [g2.at _ _ (by omega)]; exact a9, a102, t2, by omega, by omega, by omega, P8.2.s⟩
    refine Ends.eq (b212_43 (n := n) (by (repeat' first | assumption | refine LX.setF _ _ ?_ (by decide +kernel) | refine LX.setS ?_ rfl | refine LX.setA ?_ (by first | assumption | omega))) (by first | assumption | omega)) ?_
    cases e1 : pS u m fd bk g 3 0 (dp + 1) (tkT u m p) acc with
    | none => rw [e1] at hp; cases hp
    | some rr =>
    rw [e1] at hp
    refine Ends.cx (c := 19) l2 (by decide +kernel) (hD d' (dp + 1) (tkT u m p) k mu h2 acc rr e1 l2 F2 FP2 (by omega)) (fun x h' ⟨e, _, w⟩ => w.c) rfl (fun h3 l3 _ _ _ ⟨D, N, p1, er, R⟩ => ?_) (fun x h' _ _ ⟨e, er, w⟩ => by
      subst er
      exact Or.inr ⟨x, h', rfl, e, (Option.some.inj hp).symm, XE.pre G2 w⟩)
    subst er
    dsimp only at hp
    obtain ⟨r1, r2, r3, r4, r5, r6, r7, r8, r9⟩ := R
    have G3 : Agr (FW B k) h h3 := G2.tr r1 (fun _ _ z => z)
    have l3' : LX B n (hset h3 (B + 7) 10 (dp : Int)) := LX.setF 7 10 l3 (by decide +kernel)
    have G3' : Agr (FW B k) h (hset h3 (B + 7) 10 (dp : Int)) := G3.set (FW_f (by omega))
    have e8 : hv (hset h3 (B + 7) 10 (dp : Int)) (B + 7) 8 = ((k + 1 : Nat) : Int) := by rw [hv_set_ne (by omega)]; exact r3
    have fin : ∀ (X : Fq) (h4 : AH), PutR B k (hset h3 (B + 7) 10 (dp : Int)) X h4 → FOK X → X = (if isSg u m p 45 then fNeg (frA B h3 k) else fNot (frA B h3 k)) → ∃ h', (((0, (9, 0)), h4) : Rs) = ((0, (9, 0)), h') ∧ ∃ D N p', r = .inr (D, N, p') ∧ FR B m u h h' k mu dp D p p' := by
      intro X h4 W okX eX
      obtain ⟨w1, w2, w3⟩ := W
      refine ⟨_, rfl, _, N, p1, (Option.some.inj hp).symm, G3'.tr w1 FW_pl, (r2.f).agr w1 (fun z => by unfold plW; omega), w2, ?_, ?_, ?_, ?_, by omega, r9⟩
      · rw [w1.at _ _ (by unfold plW; omega), hv_set_ne (by omega)]; exact r4
      · rw [w1.at _ _ (by unfold plW; omega)]; exact hv_set_at ..
      · rw [w3, eX, r6, envM_agr G2]
      · rw [w3]; exact okX
    refine Ends.eq (b212_47 (n := n) (by (repeat' first | assumption | refine LX.setF _ _ ?_ (by decide +kernel) | refine LX.setS ?_ rfl | refine LX.setA ?_ (by first | assumption | omega))) (by first | assumption | omega)) ?_
    rw [r5, b100_1' (by omega)]
    by_cases h45 : isSg u m p 45 = true
    · refine Ends.b1 (fun z => absurd (isSg_iff.mp h45).2 z) (fun _ => ?_)
      refine Ends.cv l3' (by decide +kernel) (c_minus (k := k) l3' (by omega) e8 (by omega) (by rw [frA_f]; exact r7)) (fun h4 l4 _ _ _ W => ?_)
      rw [frA_f] at W
      refine Ends.eq (b212_67 (n := n) (by (repeat' first | assumption | refine LX.setF _ _ ?_ (by decide +kernel) | refine LX.setS ?_ rfl | refine LX.setA ?_ (by first | assumption | omega))) (by first | assumption | omega)) ?_
      refine Ends.eq (b212_74 (n := n) (by (repeat' first | assumption | refine LX.setF _ _ ?_ (by decide +kernel) | refine LX.setS ?_ rfl | refine LX.setA ?_ (by first | assumption | omega))) (by first | assumption | omega)) ?_
      refine Ends.eq (b212_170 (n := n) (by (repeat' first | assumption | refine LX.setF _ _ ?_ (by decide +kernel) | refine LX.setS ?_ rfl | refine LX.setA ?_ (by first | assumption | omega))) (by first | assumption | omega)) ?_
      exact Ends.sm (Or.inl (fin _ h4 W (fNeg_ok r7) (by rw [if_pos h45])))
    · have h33 : isSg u m p 33 = true := hs.resolve_left h45
      refine Ends.b1 (fun _ => ?_) (fun z => absurd (z.symm.trans (isSg_iff.mp h33).2) (by decide))
      refine Ends.cv l3' (by decide +kernel) (c_not (k := k) l3' (by omega) e8 (by omega)) (fun h4 l4 _ _ _ W => ?_)
      rw [frA_f] at W
      refine Ends.eq (b212_74 (n := n) (by (repeat' first | assumption | refine LX.setF _ _ ?_ (by decide +kernel) | refine LX.setS ?_ rfl | refine LX.setA ?_ (by first | assumption | omega))) (by first | assumption | omega)) ?_
      refine Ends.eq (b212_170 (n := n) (by (repeat' first | assumption | refine LX.setF _ _ ?_ (by decide +kernel) | refine LX.setS ?_ rfl | refine LX.setA ?_ (by first | assumption | omega))) (by first | assumption | omega)) ?_
      exact Ends.sm (Or.inl (fin _ h4 W (fNot_ok r7) (by rw [if_neg h45])))
  refine Ends.eq (b212_0 (n := n) (by (repeat' first | assumption | refine LX.setF _ _ ?_ (by decide +kernel) | refine LX.setS ?_ rfl | refine LX.setA ?_ (by first | assumption | omega))) (by first | assumption | omega)) ?_
  rw [is 45, is 33, is 40]
  cases h45 : isSg u m p 45 with
  | true => exact Ends.b1 (fun _ => sgn (Or.inl h45)) (fun z => absurd z (by decide))
  | false =>
  refine Ends.b1 (fun z => absurd rfl z) (fun _ => ?_)
  cases h33 : isSg u m p 33 with
  | true => exact Ends.b0 (fun z => absurd z (by decide)) (fun _ => sgn (Or.inr h33))
  | false =>
  refine Ends.b0 (fun _ => ?_) (fun z => absurd rfl z)
  rw [h45, h33, show (false || false) = false from rfl, if_neg (by decide)] at hp
  cases h40 : isSg u m p 40 with
  | true =>
    refine Ends.b0 (fun z => absurd z (by decide)) (fun _ => ?_)
    have t4 := opn (Or.inr (Or.inr h40))
    rw [h40, if_pos rfl] at hp
    refine Ends.cv l (by decide +kernel) (c_sgNext l (by omega) F.1.1 F.1.2.1.t.1 P1.2.2.1 t2) (fun h1 l1 _ _ _ ⟨g1, R1⟩ => ?_)
    have G1 : Agr (FW B k) h h1 := g1.sub FW_sg
    have F1 := F.agr l G1
    have a8 : hv h1 (B + 7) 8 = (k : Int) := by rw [g1.at _ _ (by unfold sgW; omega)]; exact P2
    have a9 : hv h1 (B + 7) 9 = (mu : Int) := by rw [g1.at _ _ (by unfold sgW; omega)]; exact P3
    have a10 : hv h1 (B + 7) 10 = (dp : Int) := by rw [g1.at _ _ (by unfold sgW; omega)]; exact P4
    refine Ends.eq (b212_96 (n := n) (by (repeat' first | assumption | refine LX.setF _ _ ?_ (by decide +kernel) | refine LX.setS ?_ rfl | refine LX.setA ?_ (by first | assumption | omega))) (by first | assumption | omega)) ?_
    refine Ends.cx (c := 19) l1 (by decide +kernel) (c_enter l1 (by omega) F1.1.1.1 a10 P7 R1.2.1) (fun x h' w => w.2.c) rfl (fun h2 l2 _ _ _ ⟨dlt, g2, a102⟩ => ?_) (fun x h' _ _ ⟨de, w⟩ => by
      rw [if_pos (by omega)] at hp
      exact Or.inr ⟨x, h', rfl, _, (Option.some.inj hp).symm, ⟨_, (G1.set (FW_f (by omega))).sub (FW_le (Nat.zero_le k)), w⟩⟩)
    rw [if_neg (by omega)] at hp
    have G2 : Agr (FW B k) h h2 := G1.tr g2 (fun c z q => by rw [q.1, q.2]; exact FW_f (by omega))
    have F2 := F.agr l G2
    have R2 : SgT h2 (B + 8) u m (tkT u m p) := R1.agr g2 (fun z => by omega)
    have FP2 : FP B m u h2 (tkT u m p) k (dp + 1) mu := ⟨R2, by rw [g2.at _ _ (by omega)]; exact a8, by rw [g2.at _ _ (by omega)]; exact a9, a102, t2, by omega, by omega, by omega, P8.2.s⟩
    refine Ends.eq (b212_100 (n := n) (by (repeat' first | assumption | refine LX.setF _ _ ?_ (by decide +kernel) | refine LX.setS ?_ rfl | refine LX.setA ?_ (by first | assumption | omega))) (by first | assumption | omega)) ?_
    cases e1 : pS u m fd bk g 0 0 (dp + 1) (tkT u m p) acc with
    | none => rw [e1] at hp; cases hp
    | some rr =>
    rw [e1] at hp
    refine Ends.cx (c := 19) l2 (by decide +kernel) (hA d' (dp + 1) (tkT u m p) k mu h2 acc rr e1 l2 F2 FP2 (by omega)) (fun x h' ⟨e, _, w⟩ => w.c) rfl (fun h3 l3 _ _ _ ⟨D, N, p1, er, R⟩ => ?_) (fun x h' _ _ ⟨e, er, w⟩ => by
      subst er
      exact Or.inr ⟨x, h', rfl, e, (Option.some.inj hp).symm, XE.pre G2 w⟩)
    subst er
    dsimp only at hp
    obtain ⟨r1, r2, r3, r4, r5, r6, r7, r8, r9⟩ := R
    have G3 : Agr (FW B k) h h3 := G2.tr r1 (fun _ _ z => z)
    refine Ends.eq (b212_104 (n := n) (by (repeat' first | assumption | refine LX.setF _ _ ?_ (by decide +kernel) | refine LX.setS ?_ rfl | refine LX.setA ?_ (by first | assumption | omega))) (by first | assumption | omega)) ?_
    rw [r5, b100_1' (by omega)]
    have l3' : LX B n (hset h3 (B + 7) 10 (dp : Int)) := LX.setF 7 10 l3 (by decide +kernel)
    have G3' : Agr (FW B k) h (hset h3 (B + 7) 10 (dp : Int)) := G3.set (FW_f (by omega))
    have F3 := F.agr l G3'
    refine needF (s := 41) rfl l3' F3 r2.f r9 (by omega) (fun h4 l4 k41 g4 R4 => ?_) (fun x h' kn w => by
      rw [show isSg u m p1 41 = false from kn] at hp
      exact Or.inr ⟨x, h', rfl, _, (Option.some.inj hp).symm, XE.pre G3' w⟩)
    rw [show isSg u m p1 41 = true from k41, if_pos rfl] at hp
    obtain ⟨s1, s2, s3⟩ := tk_le (u := u) r9
    have s4 := tk_lt (u := u) (m := m) (p := p1) (by have := (isSg_iff.mp k41).1; omega)
    have f4 : frA B h4 k = frA B h3 k := by rw [frA_agr g4 (fun c h1 h2 => by unfold sgW; omega), frA_f]
    refine Ends.eq (b212_123 (n := n) (by (repeat' first | assumption | refine LX.setF _ _ ?_ (by decide +kernel) | refine LX.setS ?_ rfl | refine LX.setA ?_ (by first | assumption | omega))) (by first | assumption | omega)) ?_
    refine Ends.eq (b212_170 (n := n) (by (repeat' first | assumption | refine LX.setF _ _ ?_ (by decide +kernel) | refine LX.setS ?_ rfl | refine LX.setA ?_ (by first | assumption | omega))) (by first | assumption | omega)) ?_
    refine Ends.sm (Or.inl ⟨_, rfl, D, N, _, (Option.some.inj hp).symm, G3'.tr g4 FW_sg, R4, ?_, ?_, ?_, ?_, ?_, by omega, s2⟩)
    · rw [g4.at _ _ (by unfold sgW; omega), hv_set_ne (by omega)]; exact r3
    · rw [g4.at _ _ (by unfold sgW; omega), hv_set_ne (by omega)]; exact r4
    · rw [g4.at _ _ (by unfold sgW; omega)]; exact hv_set_at ..
    · rw [f4, r6, envM_agr G2]
    · rw [f4]; exact r7
  | false =>
  refine Ends.b0 (fun _ => ?_) (fun z => absurd rfl z)
  rw [h40, if_neg (by decide)] at hp
  rw [P1.1]
  refine Ends.b1 (fun n2 => ?_) (fun e2 => ?_)
  · refine Ends.b1 (fun n1 => ?_) (fun e1 => ?_)
    · -- nothing that can stand here
      rw [if_neg (by omega), if_neg (by omega)] at hp
      refine Ends.ct l (by decide +kernel) (by decide) (c_wrong l (by omega) F.1.1.1 (by omega) P1.2.1) (fun v h2 l2 _ _ _ ⟨w1, w2⟩ => ?_)
      subst w1
      have w : WrX h (tkF u m p : Int) (rf (hnx h)) h2 := ⟨rfl, w2⟩
      have kk : (hk h2 (ad (rf (hnx h)))).1 = 1 := by
        rw [ad_rf, w2]
        show (hk (hnew h (1, 19) 7) (hnx h)).1 = 1
        rw [hk_new, if_pos rfl]
      refine Ends.eq (b212_169 (n := n) (by (repeat' first | assumption | refine LX.setF _ _ ?_ (by decide +kernel) | refine LX.setS ?_ rfl | refine LX.setA ?_ (by first | assumption | omega))) (by first | assumption | omega)) ?_
      exact Ends.g ⟨rf_pos _, kk⟩ (Ends.th w.c rfl (Or.inr ⟨_, _, rfl, _, (Option.some.inj hp).symm, XE.of w⟩))
    · have k1 : tkK u m p = 1 := by omega
      refine Ends.cx (c := 19) l (by decide +kernel) (e_word hA hfd cb l F P0 k1 (by omega) hp0 h45 h33 h40) (fun x h' ⟨e, _, w⟩ => w.c) rfl (fun h1 l1 _ _ _ ⟨D, N, p1, er, R⟩ => ?_) (fun x h' _ _ w => Or.inr ⟨x, h', rfl, w⟩)
      refine Ends.eq (b212_159 (n := n) (by (repeat' first | assumption | refine LX.setF _ _ ?_ (by decide +kernel) | refine LX.setS ?_ rfl | refine LX.setA ?_ (by first | assumption | omega))) (by first | assumption | omega)) ?_
      refine Ends.eq (b212_170 (n := n) (by (repeat' first | assumption | refine LX.setF _ _ ?_ (by decide +kernel) | refine LX.setS ?_ rfl | refine LX.setA ?_ (by first | assumption | omega))) (by first | assumption | omega)) ?_
      exact Ends.sm (Or.inl ⟨_, rfl, D, N, p1, er, R⟩)
  · have k2 : tkK u m p = 2 := by omega
    rw [if_pos k2] at hp
    obtain ⟨o1, o2, o3⟩ := numD_ok P5 k2
    refine Ends.cv l (by decide +kernel) (c_numberF l (by omega) F.1 P5 P1 k2 P2 (by omega)) (fun h1 l1 _ _ rl ⟨g1, R1, e8, eN⟩ => ?_)
    refine Ends.eq (b212_141 (n := n) (by (repeat' first | assumption | refine LX.setF _ _ ?_ (by decide +kernel) | refine LX.setS ?_ rfl | refine LX.setA ?_ (by first | assumption | omega))) (by first | assumption | omega)) ?_
    refine Ends.eq (b212_170 (n := n) (by (repeat' first | assumption | refine LX.setF _ _ ?_ (by decide +kernel) | refine LX.setS ?_ rfl | refine LX.setA ?_ (by first | assumption | omega))) (by first | assumption | omega)) ?_
    exact Ends.sm (Or.inl ⟨_, rfl, _, _, _, (Option.some.inj hp).symm, g1, R1, e8, by rw [rel_f l rl (by decide +kernel)]; exact P3, by rw [rel_f l rl (by decide +kernel)]; exact P4, eN, by rw [eN]; exact o1, o2, o3⟩)
/-- ALL OF A FORMULA, however deep the fuel -/
theorem parse_all (hfd : ∀ p, fd p = fdN (nmP c bb (tkF u m p) (tkT u m p - tkF u m p)) nv 0) (cb : CBk gv B n a m u c bb nv tl tf bk) : ∀ g, HA gv B n a m u c bb nv tl tf fd bk g ∧ HB gv B n a m u c bb nv tl tf fd bk g ∧ HC gv B n a m u c bb nv tl tf fd bk g ∧ HD gv B n a m u c bb nv tl tf fd bk g
  | 0 => ⟨(fun _ _ _ _ _ _ _ _ hp => by unfold pS at hp; cases hp), (fun _ _ _ _ _ _ _ _ _ hp => by unfold pS at hp; cases hp), (fun _ _ _ _ _ _ _ _ _ _ _ _ hp => by unfold pS at hp; cases hp), (fun _ _ _ _ _ _ _ _ hp => by unfold pS at hp; cases hp)⟩
  | g + 1 =>
    have ⟨hA, hB, hC, hD⟩ := parse_all hfd cb g
    ⟨stepA hB hA, stepB hD hC, stepC hB hC, stepD hA hD hfd cb⟩
end OPERAND
