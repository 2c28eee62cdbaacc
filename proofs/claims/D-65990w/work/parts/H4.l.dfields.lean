/-! L3: the numbers of a feature's fields (desk) -/
noncomputable section FDD
variable {gv : Nat → Int} {B n d f kd nv nc k0 tof : Nat} {h t q : AH} {c : Nat → Int} {V : Nat → Fq} {tu : Int} {W : Nat → Nat → Prop}
theorem fec (hc : ∀ z, z < 37368 → hv h (B + 2) z = c z) (hf : f < 24) : q278 B h (f : Int) ∧ v278 B h (f : Int) = c (feA f + 1) ∧ q289 B h (f : Int) ∧ v289 B h (f : Int) = c (feA f + 3) := by
  have b := fe_b hf
  obtain ⟨a1, a2⟩ := cell_is (i := feA f + 1) hc (by omega)
  obtain ⟨b1, b2⟩ := cell_is (i := feA f + 3) hc (by omega)
  unfold q278 v278 q289 v289
  rw [show bop32 96 (v254 (f : Int)) (1 : Int) = _ from fe_ix (i := 1) hf (by decide), show bop32 96 (v254 (f : Int)) (3 : Int) = _ from fe_ix (i := 3) hf (by decide)]
  exact ⟨a1, a2, b1, b2⟩
/-- what a feature's fields give, and whether they are good -/
def fdNb (c : Nat → Int) (nv : Nat) (V : Nat → Fq) (f k : Nat) : Int := gwT c nv V (fdA f k)
def fOK (c : Nat → Int) (nv : Nat) (V : Nat → Fq) (kd f k : Nat) : Bool := kNm kd k || (gkT c nv V (fdA f k) && gdB kd k (fdNb c nv V f))
/-- all are good; the first that is not -/
def FdG (c : Nat → Int) (nv : Nat) (V : Nat → Fq) (kd f : Nat) : Prop := ∀ k, k < fnN kd → fOK c nv V kd f k = true
def FdB (c : Nat → Int) (nv : Nat) (V : Nat → Fq) (kd f : Nat) (r : Int) : Prop := ∃ k, k < fnN kd ∧ r = (k : Int) ∧ (∀ j, j < k → fOK c nv V kd f j = true) ∧ fOK c nv V kd f k = false
theorem FdB.uniq {r r' : Int} (a : FdB c nv V kd f r) (b : FdB c nv V kd f r') : r = r' := by
  obtain ⟨k, h1, h2, h3, h4⟩ := a
  obtain ⟨k', h1', h2', h3', h4'⟩ := b
  rcases Nat.lt_trichotomy k k' with z | z | z
  · rw [h3' k z] at h4; exact absurd h4 (by decide)
  · omega
  · rw [h3 k' z] at h4'; exact absurd h4' (by decide)
theorem FdB.not {r : Int} (a : FdB c nv V kd f r) : ¬ FdG c nv V kd f := fun g => by
  obtain ⟨k, h1, h2, h3, h4⟩ := a
  rw [g k h1] at h4; exact absurd h4 (by decide)
/-- the texts of a feature's formulas -/
def FdT (c : Nat → Int) (nv kd f : Nat) : Prop := ∀ k, k < fnN kd → kNm kd k = false → TX c (fdA f k) ∧ ∃ X N p, rdT c nv (fdA f k) = .inr (X, N, p)
/-- numbers told -/
def PvF (B : Nat) (h : AH) (c : Nat → Int) (nv : Nat) (V : Nat → Fq) (kd f m : Nat) : Prop := ∀ k, k < m → kNm kd k = false → hv h (B + 97) k = fdNb c nv V f k
theorem fdNb_b {k : Nat} : -200 ≤ fdNb c nv V f k ∧ fdNb c nv V f k ≤ 200 := gw_b
theorem fd_in {k : Nat} (hf : f < 24) (hk : k < 8) : fdA f k + 61 ≤ 37368 := by
  have := fe_b hf
  unfold fdA feA at *
  omega
/-- where working out texts does not write -/
def ivO (B : Nat) : Nat → Nat → Prop := fun a z => a < B ∨ a = B + 2 ∨ (a = B + 1 ∧ z = 8) ∨ (a = B + 7 ∧ (z = 13 ∨ z = 21)) ∨ (B + 15 ≤ a ∧ a ≤ B + 18)
theorem IvD.agr (I : IvD gv B c nv k0 tof tu q) (g : Agr W q t) (hW : ∀ a z, W a z → ¬ ivO B a z) : IvD gv B c nv k0 tof tu t := by
  obtain ⟨i1, i2, i3, i4, i5⟩ := I
  have at' : ∀ a z, ivO B a z → hv t a z = hv q a z := fun a z o => g.at _ _ (fun w => hW a z w o)
  have er : rwA B t = rwA B q := funext fun v => by
    unfold rwA
    rw [at' (B + 15) v (by unfold ivO; omega), at' (B + 16) v (by unfold ivO; omega), at' (B + 17) v (by unfold ivO; omega), at' (B + 18) v (by unfold ivO; omega)]
  refine ⟨fun z hz => ?_, i2.agr g (fun a z hz w => hW a z w (Or.inl hz)), ?_, ?_, fun e => ?_⟩
  · rw [at' _ _ (by unfold ivO; omega)]; exact i1 z hz
  · rw [at' _ _ (by unfold ivO; omega)]; exact i3
  · rw [at' _ _ (by unfold ivO; omega)]; exact i4
  · rw [er]
    rw [at' _ _ (by unfold ivO; omega)] at e
    exact i5 e
/-- where reading the fields writes -/
def fdsW (B : Nat) : Nat → Nat → Prop := fun a z => gvW B a z ∨ a = B + 97 ∨ (a = B + 92 ∧ (z = 27 ∨ z = 28))
theorem KnB.fd (K : KnB gv B h) (g : Agr (fdsW B) h t) : KnB gv B t := K.agr g (fun a z e w => by unfold fdsW gvW waW wkW at w; omega)
/-- a bound of splits' numbers -/
theorem sp_in {k : Nat} (hk : k < 2) (e : fOK c nv V 19 f k = true) : -1 ≤ fdNb c nv V f k ∧ fdNb c nv V f k ≤ 1 := by
  unfold fOK at e
  rw [show kNm 19 k = false from by rcases (by omega : k = 0 ∨ k = 1) with rfl | rfl <;> decide, Bool.false_or, Bool.and_eq_true] at e
  have e := e.2
  unfold gdB at e
  rw [if_neg (by decide), if_neg (by decide), if_neg (by decide), if_neg (by decide), if_neg (by decide), if_neg (by decide), if_neg (by decide), if_neg (by decide), if_neg (by decide), if_neg (by decide), if_neg (by decide), if_pos rfl, decide_eq_false (by omega), Bool.false_or, Bool.and_eq_true] at e
  have e := e.1
  unfold inBd at e
  exact of_decide_eq_true e
theorem nm_no : ∀ kd : Fin 31, ∀ k : Fin 7, (kd.val = 11 ∨ kd.val = 19 ∨ kd.val = 30 ∨ kd.val ≤ 13) → kNm kd.val k.val = false := by decide
/-- numbers told anew are small -/
def VlK (B : Nat) (h q : AH) : Prop := ∀ k, hv q (B + 97) k = hv h (B + 97) k ∨ (-200 ≤ hv q (B + 97) k ∧ hv q (B + 97) k ≤ 200)
theorem VlK.far (v : VlK B h q) (g : Agr W q t) (hW : ∀ k, ¬ W (B + 97) k) : VlK B h t := fun k => by rw [g.at _ _ (hW k)]; exact v k
theorem VlK.put {j : Nat} {x : Int} (v : VlK B h q) (hx : -200 ≤ x ∧ x ≤ 200) : VlK B h (hset q (B + 97) j x) := fun k => by
  by_cases z : k = j
  · rw [z, hv_set_at]; exact Or.inr hx
  · rw [hv_set_ne (fun w => z w.2)]; exact v k
set_option maxHeartbeats 1000000 in
/-- all fields read -/
theorem c_fieldsOf269 (l : LX B n h) (hd : 406 ≤ d) (hf : f < 24) (hkd : kd < 31) (ek : c (feA f + 1) = (kd : Int)) (DWc : DW c nv nc) (hk2 : c 2 = (k0 : Int)) (hk : k0 < nc) (ok : OKc c nv k0) (A : Vals c nv k0 V) (I : IvD gv B c nv k0 tof tu h) (K0 : KnB gv B h) (T : FdT c nv kd f) (n3 : 0 ≤ c 3 ∧ c 3 ≤ 6) :
    Vt 0 (cll PP (ev PP (gsF gv) B) d 269 [(2, rf (B + 92)), (0, (f : Int))] h) (fun x h' => Agr (fdsW B) h h' ∧ IvD gv B c nv k0 tof tu h' ∧ VlK B h h' ∧ ((FdG c nv V kd f ∧ PvF B h' c nv V kd f (fnN kd) ∧ x = if kd = 30 ∧ ¬ (0 ≤ fdNb c nv V f 0 ∧ fdNb c nv V f 0 < c 3) then 3 else 0) ∨ (x = 1 ∧ ∃ r, FdB c nv V kd f r ∧ hv h' (B + 92) 27 = 1 ∧ hv h' (B + 92) 28 = r))) := by
  have N7 : fnN kd ≤ 7 := fn_7 ⟨kd, hkd⟩
  refine Vt.inq (D := 405) hd (Nat.le_of_ble_eq_true rfl) rfl (fun d hd Q K => ?_)
  obtain ⟨y1, y2, -, -⟩ := fec I.1 hf
  refine Ends.eq (b269_0 l (by omega)) (Ends.g y1 ?_)
  rw [y2, ek]
  have main : ∀ (r j : Nat) (q : AH), j + r = fnN kd → LX B n q → Agr (fdsW B) h q → IvD gv B c nv k0 tof tu q → VlK B h q → PvF B q c nv V kd f j → (∀ i, i < j → fOK c nv V kd f i = true) → Ends (ev PP (gsF gv) B d 269 8 [(2, rf (B + 92)), (0, (f : Int)), (0, (kd : Int)), (0, (j : Int))] [] q) Q := by
    intro r
    induction r with
    | zero =>
      intro j q e lq g Iq vk P G
      have e' : j = fnN kd := by omega
      obtain ⟨k1, k2⟩ := v243_is (K0.fd g) hkd
      refine Ends.eq (b269_8 lq (by omega)) (Ends.g k1 ?_)
      rw [k2, e']
      rw [e'] at P G
      refine Ends.b3 (fun _ => ?_) (fun z => absurd z (Int.lt_irrefl _))
      obtain ⟨c1, c2⟩ := cell_is (i := 3) Iq.1 (by decide)
      refine Ends.g ?_ (Ends.sm (K _ _ ⟨g, Iq, vk, Or.inl ⟨G, P, ?_⟩⟩))
      · cases tst 1 ((kd : Nat) : Int) 30
        · exact c1
        · exact trivial
      · rw [ct1]
        by_cases z : kd = 30
        · subst z
          rw [if_pos (by omega), ct1, show v447 B q 3 = c 3 from c2, v321_is, show Int.toNat 0 = 0 from rfl, P 0 (by decide) (by decide), sub32 (by omega) (by omega)]
          unfold bI01 inBd
          by_cases y : 0 ≤ fdNb c nv V f 0 ∧ fdNb c nv V f 0 < c 3
          · rw [if_pos (show (decide (0 ≤ fdNb c nv V f 0 ∧ fdNb c nv V f 0 ≤ c 3 - 1)) = true by rw [decide_eq_true_iff]; omega), if_neg (by decide), if_neg (fun w => w.2 y)]
          · rw [if_neg (show ¬ (decide (0 ≤ fdNb c nv V f 0 ∧ fdNb c nv V f 0 ≤ c 3 - 1)) = true by rw [decide_eq_true_iff]; omega), if_pos rfl, if_pos ⟨rfl, y⟩]
        · rw [if_neg (by omega), if_neg (fun w => z w.1)]
    | succ r ih =>
      intro j q e lq g Iq vk P G
      have hj : j < fnN kd := by omega
      have Kq := K0.fd g
      obtain ⟨k1, k2⟩ := v243_is Kq hkd
      refine Ends.eq (b269_8 lq (by omega)) (Ends.g k1 ?_)
      rw [k2]
      refine Ends.b3 (fun z => by omega) (fun _ => ?_)
      refine Ends.ct lq (by decide +kernel) (by decide) (c_isName245 lq (by omega) Kq hkd hj) (fun v q1 l1 _ _ _ ⟨e1, ev1⟩ => ?_)
      subst e1
      have next : ∀ q2 : AH, LX B n q2 → Agr (fdsW B) h q2 → IvD gv B c nv k0 tof tu q2 → VlK B h q2 → PvF B q2 c nv V kd f (j + 1) → fOK c nv V kd f j = true → Ends (ev PP (gsF gv) B d 269 86 [(2, rf (B + 92)), (0, (f : Int)), (0, (kd : Int)), (0, (j : Int))] [] q2) Q := fun q2 l2 g2 I2 v2 P2 o => by
        refine Ends.eq (b269_86 l2 (by omega)) ?_
        rw [w_succ (i := j) (by omega)]
        exact ih (j + 1) q2 (by omega) l2 g2 I2 v2 P2 (fun i hi => by rcases (by omega : i < j ∨ i = j) with z | z; exact G i z; rw [z]; exact o)
      have bad : ∀ (q2 q3 : AH) (v : Int), Agr (fdsW B) h q2 → IvD gv B c nv k0 tof tu q2 → VlK B h q2 → Agr (fun a z => a = B + 92 ∧ (z = 27 ∨ z = 28)) q2 q3 → fOK c nv V kd f j = false → hv q3 (B + 92) 27 = 1 → hv q3 (B + 92) 28 = (j : Int) → Q ((0, (0, 1)), q3) := fun q2 q3 v g2 I2 v2 g3 o r1 r2 => K _ _ ⟨g2.tr g3 (fun a z w => Or.inr (Or.inr w)), I2.agr g3 (fun a z w y => by unfold ivO at y; omega), v2.far g3 (fun k w => by omega), Or.inr ⟨rfl, (j : Int), ⟨j, hj, rfl, G, o⟩, r1, r2⟩⟩
      refine Ends.eq (b269_29 l1 (by omega)) ?_
      rw [ev1]
      by_cases nm : kNm kd j = true
      · rw [if_pos nm]
        refine Ends.b0 (fun z => absurd z (by decide)) (fun _ => next q1 l1 g Iq vk (fun i hi ni => ?_) ?_)
        · rcases (by omega : i < j ∨ i = j) with z | z
          · exact P i z ni
          · rw [z, nm] at ni; exact absurd ni (by decide)
        · unfold fOK; rw [nm, Bool.true_or]
      rw [if_neg nm]
      have nm : kNm kd j = false := by rw [Bool.not_eq_true] at nm; exact nm
      refine Ends.b0 (fun _ => ?_) (fun z => absurd rfl z)
      rw [v267_is hf (by omega)]
      obtain ⟨t1, X, N, p, t2⟩ := T j hj nm
      refine Ends.ct l1 (by decide +kernel) (by decide) (c_givesI l1 (by omega) DWc hk2 hk ok A Iq t1 (fd_in hf (by omega)) t2) (fun v q2 l2 _ _ _ ⟨g2, I2, ev2, w22⟩ => ?_)
      have G2 : Agr (fdsW B) h q2 := g.tr g2 (fun a z w => Or.inl w)
      have V2 : VlK B h q2 := vk.far g2 (fun k w => by unfold gvW waW wkW at w; omega)
      have P2 : PvF B q2 c nv V kd f j := fun i hi ni => by rw [g2.at _ _ (by unfold gvW waW wkW; omega)]; exact P i hi ni
      refine Ends.eq (b269_47 l2 (by omega)) ?_
      rw [ev2]
      by_cases gk : gkT c nv V (fdA f j) = true
      · rw [show b2i (gkT c nv V (fdA f j)) = 1 from by rw [gk]; rfl]
        refine Ends.b1 (fun _ => Ends.g ⟨by omega, by omega⟩ ?_) (fun z => absurd z (by decide))
        rw [tn, an0, show v200 B q2 = fdNb c nv V f j from w22 gk]
        have l3 : LX B n (hset q2 (B + 97) j (fdNb c nv V f j)) := LX.setS l2 rfl
        have g3 : Agr (fun a _ => a = B + 97) q2 (hset q2 (B + 97) j (fdNb c nv V f j)) := Agr.rf.set rfl
        have G3 : Agr (fdsW B) h (hset q2 (B + 97) j (fdNb c nv V f j)) := G2.tr g3 (fun a z w => Or.inr (Or.inl w))
        have I3 : IvD gv B c nv k0 tof tu (hset q2 (B + 97) j (fdNb c nv V f j)) := I2.agr g3 (fun a z w y => by unfold ivO at y; omega)
        have V3 : VlK B h (hset q2 (B + 97) j (fdNb c nv V f j)) := V2.put fdNb_b
        have P3 : PvF B (hset q2 (B + 97) j (fdNb c nv V f j)) c nv V kd f (j + 1) := fun i hi ni => by
          by_cases z : i = j
          · rw [z, hv_set_at]
          · rw [hv_set_ne (fun w => z w.2)]; exact P2 i (by omega) ni
        obtain ⟨q3, e3⟩ : ∃ q3, q3 = hset q2 (B + 97) j (fdNb c nv V f j) := ⟨_, rfl⟩
        rw [← e3] at l3 G3 I3 V3 P3 ⊢
        refine Ends.ct l3 (by decide +kernel) (by decide) (c_isGood275 (w := fdNb c nv V f) l3 (by omega) hkd hj (P3 j (by omega) nm) (fun k11 i hi => P3 i (by omega) (nm_no ⟨kd, hkd⟩ ⟨i, by omega⟩ (by have : kd = 11 ∨ kd = 19 := k11; show kd = 11 ∨ kd = 19 ∨ kd = 30 ∨ kd ≤ 13; omega))) (fun _ => fdNb_b) (fun k19 j2 => by
          rw [k19] at G
          exact ⟨sp_in (by decide) (G 0 (by omega)), sp_in (by decide) (G 1 (by omega))⟩)) (fun v q4 l4 _ _ _ ⟨e4, ev4⟩ => ?_)
        subst e4
        refine Ends.eq (b269_76 l4 (by omega)) ?_
        rw [ev4]
        have oe : fOK c nv V kd f j = gdB kd j (fdNb c nv V f) := by unfold fOK; rw [nm, gk, Bool.false_or, Bool.true_and]
        cases gd : gdB kd j (fdNb c nv V f)
        · refine Ends.b1 (fun z => absurd rfl z) (fun _ => ?_)
          refine Ends.ct l4 (by decide +kernel) (by decide) (c_failed266 (x := 1) (y := (j : Int)) l4 (by omega)) (fun v q5 l5 _ _ _ ⟨ev5, g5, r1, r2⟩ => ?_)
          rw [ev5]
          exact Ends.eq (b269_85 l5 (by omega)) (Ends.sm (bad q4 q5 0 G3 I3 V3 g5 (by rw [oe, gd]) r1 r2))
        · exact Ends.b1 (fun _ => next q4 l4 G3 I3 V3 P3 (by rw [oe, gd])) (fun z => absurd z (by decide))
      · have gk : gkT c nv V (fdA f j) = false := by rw [Bool.not_eq_true] at gk; exact gk
        rw [show b2i (gkT c nv V (fdA f j)) = 0 from by rw [gk]; rfl]
        refine Ends.b1 (fun z => absurd rfl z) (fun _ => ?_)
        refine Ends.ct l2 (by decide +kernel) (by decide) (c_failed266 (x := 1) (y := (j : Int)) l2 (by omega)) (fun v q5 l5 _ _ _ ⟨ev5, g5, r1, r2⟩ => ?_)
        rw [ev5]
        exact Ends.eq (b269_56 l5 (by omega)) (Ends.sm (bad q2 q5 0 G2 I2 V2 g5 (by unfold fOK; rw [nm, gk]; rfl) r1 r2))
  exact main (fnN kd) 0 h (Nat.zero_add _) l Agr.rf I (fun k => Or.inl rfl) (fun k hk => absurd hk (Nat.not_lt_zero _)) (fun k hk => absurd hk (Nat.not_lt_zero _))
/-- the numbers of a feature that was good, once more -/
theorem c_again249 (l : LX B n h) (hd : 406 ≤ d) (hf : f < 24) (hkd : kd < 31) (nm : ∀ k, k < fnN kd → kNm kd k = false) (ek : c (feA f + 1) = (kd : Int)) (DWc : DW c nv nc) (hk2 : c 2 = (k0 : Int)) (hk : k0 < nc) (ok : OKc c nv k0) (A : Vals c nv k0 V) (I : IvD gv B c nv k0 tof tu h) (K0 : KnB gv B h) (T : FdT c nv kd f) (G : FdG c nv V kd f) :
    Vd (cll PP (ev PP (gsF gv) B) d 249 [(2, rf (B + 92)), (0, (f : Int))] h) (fun h' => Agr (fdsW B) h h' ∧ IvD gv B c nv k0 tof tu h' ∧ VlK B h h' ∧ PvF B h' c nv V kd f (fnN kd)) := by
  have N7 : fnN kd ≤ 7 := fn_7 ⟨kd, hkd⟩
  refine Vd.inq (D := 405) hd (Nat.le_of_ble_eq_true rfl) rfl (fun d hd Q K => ?_)
  refine Ends.eq (b249_0 l (by omega)) ?_
  have main : ∀ (r j : Nat) (q : AH), j + r = fnN kd → LX B n q → Agr (fdsW B) h q → IvD gv B c nv k0 tof tu q → VlK B h q → PvF B q c nv V kd f j → Ends (ev PP (gsF gv) B d 249 2 [(2, rf (B + 92)), (0, (f : Int)), (0, (j : Int))] [] q) Q := by
    intro r
    induction r with
    | zero =>
      intro j q e lq g Iq vk P
      have e' : j = fnN kd := by omega
      obtain ⟨y1, y2, -, -⟩ := fec Iq.1 hf
      obtain ⟨k1, k2⟩ := v243_is (K0.fd g) hkd
      refine Ends.eq (b249_2 lq (by omega)) (Ends.g y1 ?_)
      rw [y2, ek]
      refine Ends.g k1 ?_
      rw [k2, e']
      rw [e'] at P
      exact Ends.b3 (fun _ => Ends.sm (K _ ⟨g, Iq, vk, P⟩)) (fun z => absurd z (Int.lt_irrefl _))
    | succ r ih =>
      intro j q e lq g Iq vk P
      have hj : j < fnN kd := by omega
      obtain ⟨y1, y2, -, -⟩ := fec Iq.1 hf
      obtain ⟨k1, k2⟩ := v243_is (K0.fd g) hkd
      refine Ends.eq (b249_2 lq (by omega)) (Ends.g y1 ?_)
      rw [y2, ek]
      refine Ends.g k1 ?_
      rw [k2]
      refine Ends.b3 (fun z => by omega) (fun _ => ?_)
      rw [v267_is hf (by omega)]
      obtain ⟨t1, X, N, p, t2⟩ := T j hj (nm j hj)
      have gk : gkT c nv V (fdA f j) = true := by
        have o := G j hj
        unfold fOK at o
        rw [nm j hj, Bool.false_or, Bool.and_eq_true] at o
        exact o.1
      refine Ends.ct lq (by decide +kernel) (by decide) (c_givesI lq (by omega) DWc hk2 hk ok A Iq t1 (fd_in hf (by omega)) t2) (fun v q2 l2 _ _ _ ⟨g2, I2, ev2, w22⟩ => ?_)
      have G2 : Agr (fdsW B) h q2 := g.tr g2 (fun a z w => Or.inl w)
      refine Ends.eq (b249_30 l2 (by omega)) ?_
      rw [ev2, show b2i (gkT c nv V (fdA f j)) = 1 from by rw [gk]; rfl]
      refine Ends.b0 (fun z => absurd z (by decide)) (fun _ => Ends.g ⟨by omega, by omega⟩ ?_)
      rw [tn, an0, show v200 B q2 = fdNb c nv V f j from w22 gk]
      have l3 : LX B n (hset q2 (B + 97) j (fdNb c nv V f j)) := LX.setS l2 rfl
      have g3 : Agr (fun a _ => a = B + 97) q2 (hset q2 (B + 97) j (fdNb c nv V f j)) := Agr.rf.set rfl
      refine Ends.eq (b249_46 l3 (by omega)) ?_
      rw [w_succ (i := j) (by omega)]
      refine ih (j + 1) _ (by omega) l3 (G2.tr g3 (fun a z w => Or.inr (Or.inl w))) (I2.agr g3 (fun a z w y => by unfold ivO at y; omega)) ((vk.far g2 (fun k w => by unfold gvW waW wkW at w; omega)).put fdNb_b) (fun i hi ni => ?_)
      by_cases z : i = j
      · rw [z, hv_set_at]
      · rw [hv_set_ne (fun w => z w.2), g2.at _ _ (by unfold gvW waW wkW; omega)]; exact P i (by omega) ni
  exact main (fnN kd) 0 h (Nat.zero_add _) l Agr.rf I (fun k => Or.inl rfl) (fun k hk => absurd hk (Nat.not_lt_zero _))
end FDD
