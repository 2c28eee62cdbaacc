/-! L3: the numbers of a feature's fields (model) -/
noncomputable section FDM
variable {gv : Nat → Int} {B n d f f1 kd nv nc k0 qd : Nat} {h t q h0 : AH} {c : Nat → Int} {V : Nat → Fq} {W : Nat → Nat → Prop}
/-- the model's objects of a feature's formulas -/
def FmF (B : Nat) (h : AH) (c : Nat → Int) (nv kd f f1 : Nat) : Prop := ∀ k, k < fnN kd → kNm kd k = false → ∃ x, hv h (f1 + 1) k = rf x ∧ hk h x = (1, 23) ∧ B + 246 ≤ x ∧ FmX B h c nv (fdA f k) (hv h x 0)
/-- where working out does not write (model) -/
def ivN (B : Nat) : Nat → Nat → Prop := fun a z => a < B ∨ B + 246 ≤ a ∨ (B + 154 ≤ a ∧ a ≤ B + 159) ∨ (a = B + 149 ∧ z = 19)
theorem AstI.far {x : Int} {X : Dn} {N : Nat → Bool} (A : AstI (B + 246) 240 q x X N) (g : Agr W q t) (hW : ∀ a z, W a z → a < B + 246) : AstI (B + 246) 240 t x X N := A.e24 g.ext (fun a j la _ z => by have := hW _ _ z; omega)
theorem dv_far (X : DV B q c qd nv nc) (D : YD B qd q) (g : Agr W q t) (hW : ∀ a z, W a z → a < B + 246) (hn : nv ≤ 40) : DV B t c qd nv nc := by
  obtain ⟨⟨a1, a2, a3⟩, V2, V3, V4, V5⟩ := X
  have lo := D.lo
  have K : ∀ j k, j < 140 → hv t (qd + j) k = hv q (qd + j) k := fun j k hj => g.at _ _ (fun w => by have := hW _ _ w; omega)
  have K0 : ∀ k, hv t qd k = hv q qd k := fun k => K 0 k (by decide)
  refine ⟨⟨by rw [K0]; exact a1, by rw [K0]; exact a2, by rw [K0]; exact a3⟩, fun v hv1 => ?_, fun k h1 h2 => by rw [K 4 k (by decide)]; exact V3 k h1 h2, fun v k hv1 hk1 => ?_, fun v k h1 h2 h3 => ⟨(V5 v k h1 h2 h3).1, by rw [K 3 _ (by decide)]; exact (V5 v k h1 h2 h3).2⟩⟩
  · obtain ⟨s, s1, s2, s3, s4, s5⟩ := V2 v hv1
    exact ⟨s, s1, s2, s3, by rw [K 2 _ (by decide)]; exact s4, fun i hi => by rw [K 1 _ (by decide)]; exact s5 i hi⟩
  · rw [K 3 _ (by decide)]
    exact (V4 v k hv1 hk1).imp id (fun ⟨e1, X, N, p', r1, r2, r3⟩ => ⟨e1, X, N, p', r1, r2.far g hW, r3⟩)
theorem IvM.agr (I : IvM B n c qd nv nc k0 V h0 q) (g : Agr W q t) (hW : ∀ a z, W a z → ¬ ivN B a z) : IvM B n c qd nv nc k0 V h0 t := by
  obtain ⟨⟨⟨a1, a2, a3, a4⟩, b, cc, dd⟩, i2, i3⟩ := I
  have lt : ∀ a z, W a z → a < B + 246 := fun a z w => by have := hW a z w; unfold ivN at this; omega
  have at' : ∀ a z, ivN B a z → hv t a z = hv q a z := fun a z o => g.at _ _ (fun w => hW a z w o)
  refine ⟨⟨⟨by rw [at' _ _ (by unfold ivN; omega)]; exact a1, a2.far g (fun a z h1 h2 w => by have := lt _ _ w; have := a2.lo; omega), by rw [g.nx]; exact a3, dv_far a4 a2 g lt b.1.2.1⟩, b, cc, dd⟩, fun v h40 => ?_, fun x X N A => (i3 x X N A).far g lt⟩
  have er : rwMf B t v = rwMf B q v := by
    unfold rwMf
    rw [at' (B + 155) v (by unfold ivN; omega), at' (B + 156) v (by unfold ivN; omega), at' (B + 157) v (by unfold ivN; omega), at' (B + 158) v (by unfold ivN; omega)]
  rw [at' (B + 154) v (by unfold ivN; omega), er]
  exact i2 v h40
/-- numbers told (model) -/
def PmF (B : Nat) (h : AH) (c : Nat → Int) (nv : Nat) (V : Nat → Fq) (kd f m : Nat) : Prop := ∀ k, k < m → kNm kd k = false → hv h (B + 198) k = fdNb c nv V f k
/-- where reading the fields writes -/
def fmvW (B : Nat) : Nat → Nat → Prop := fun a z => wvW B a z ∨ a = B + 198 ∨ (a = B + 149 ∧ (z = 100 ∨ z = 101))
theorem fm_lt {a z : Nat} (w : fmvW B a z) : B + 149 ≤ a ∧ a < B + 246 ∧ ¬ (a = B + 149 ∧ z = 19) := by unfold fmvW wvW mfW at w; omega
theorem FmF.agr (F : FmF B h c nv kd f f1) (g : Agr W h t) (hl : B + 246 ≤ f1) (hW : ∀ a z, W a z → a < B + 246) : FmF B t c nv kd f f1 := fun k hk nm => by
  obtain ⟨x, x1, x2, x3, x4, x5⟩ := F k hk nm
  refine ⟨x, by rw [g.at _ _ (fun w => by have := hW _ _ w; omega)]; exact x1, by rw [g.hk]; exact x2, x3, ?_⟩
  rw [g.at _ _ (fun w => by have := hW _ _ w; omega)]
  refine ⟨x4, ?_⟩
  rcases x5 with z | ⟨z1, X, N, p, r1, r2, r3⟩
  · exact Or.inl z
  · exact Or.inr ⟨z1, X, N, p, r1, r2.far g hW, r3⟩
set_option maxHeartbeats 1000000 in
theorem c_fieldsGive627 (l : LX B n h) (hd : 984 ≤ d) (hkd : kd < 31) (F1 : YF B f1 h) (hl : B + 246 ≤ f1) (hk : hv h f1 1 = (kd : Int)) (F : FmF B h c nv kd f f1) (I : IvM B n c qd nv nc k0 V h h) :
    Vt 0 (cll PP (ev PP (gsF gv) B) d 627 [(2, rf (B + 149)), (2, rf f1)] h) (fun x h' => Agr (fmvW B) h h' ∧ IvM B n c qd nv nc k0 V h h' ∧ ((x = 1 ∧ FdG c nv V kd f ∧ PmF B h' c nv V kd f (fnN kd)) ∨ (x = 0 ∧ ∃ r, FdB c nv V kd f r ∧ hv h' (B + 149) 100 = 1 ∧ hv h' (B + 149) 101 = r))) := by
  have N7 : fnN kd ≤ 7 := fn_7 ⟨kd, hkd⟩
  refine Vt.inq (D := 983) hd (Nat.le_of_ble_eq_true rfl) rfl (fun d hd Q K => ?_)
  refine Ends.eq (b627_0 l (by omega)) ?_
  have main : ∀ (r j : Nat) (q : AH), j + r = fnN kd → LX B n q → Agr (fmvW B) h q → IvM B n c qd nv nc k0 V h q → PmF B q c nv V kd f j → (∀ i, i < j → fOK c nv V kd f i = true) → Ends (ev PP (gsF gv) B d 627 2 [(2, rf (B + 149)), (2, rf f1), (0, (j : Int))] [] q) Q := by
    intro r
    induction r with
    | zero =>
      intro j q e lq g Iq P G
      have e' : j = fnN kd := by omega
      have hkq : hv q f1 1 = (kd : Int) := by rw [g.at _ _ (fun w => by have := fm_lt w; omega)]; exact hk
      refine Ends.eq (b627_2 lq (by omega)) ?_
      rw [hkq]
      refine Ends.ct lq (by decide +kernel) (by decide) (c_fieldsOf628 lq (by omega) hkd) (fun v q1 l1 _ _ _ ⟨e1, ev1⟩ => ?_)
      subst e1
      refine Ends.eq (b627_10 l1 (by omega)) ?_
      rw [ev1, e']
      rw [e'] at P G
      exact Ends.b3 (fun _ => Ends.sm (K _ _ ⟨g, Iq, Or.inl ⟨rfl, G, P⟩⟩)) (fun z => absurd z (Int.lt_irrefl _))
    | succ r ih =>
      intro j q e lq g Iq P G
      have hj : j < fnN kd := by omega
      have far : ∀ a k, B + 246 ≤ a → hv q a k = hv h a k := fun a k ha => g.at _ _ (fun w => by have := fm_lt w; omega)
      have hkq : hv q f1 1 = (kd : Int) := by rw [far _ _ hl]; exact hk
      refine Ends.eq (b627_2 lq (by omega)) ?_
      rw [hkq]
      refine Ends.ct lq (by decide +kernel) (by decide) (c_fieldsOf628 lq (by omega) hkd) (fun v q1 l1 _ _ _ ⟨e1, ev1⟩ => ?_)
      subst e1
      have next : ∀ q2 : AH, LX B n q2 → Agr (fmvW B) h q2 → IvM B n c qd nv nc k0 V h q2 → PmF B q2 c nv V kd f (j + 1) → fOK c nv V kd f j = true → Ends (ev PP (gsF gv) B d 627 83 [(2, rf (B + 149)), (2, rf f1), (0, (j : Int))] [] q2) Q := fun q2 l2 g2 I2 P2 o => by
        refine Ends.eq (b627_83 l2 (by omega)) ?_
        rw [w_succ (i := j) (by omega)]
        exact ih (j + 1) q2 (by omega) l2 g2 I2 P2 (fun i hi => by rcases (by omega : i < j ∨ i = j) with z | z; exact G i z; rw [z]; exact o)
      have bad : ∀ (q2 : AH), LX B n q2 → Agr (fmvW B) h q2 → IvM B n c qd nv nc k0 V h q2 → fOK c nv V kd f j = false → Ends (ev PP (gsF gv) B d 627 76 [(2, rf (B + 149)), (2, rf f1), (0, (j : Int))] [] q2) Q := fun q2 l2 g2 I2 o => by
        refine Ends.eq (b627_76 l2 (by omega)) ?_
        refine Ends.ct l2 (by decide +kernel) (by decide) (c_because552 (x := 1) (y := (j : Int)) l2 (by omega)) (fun v q5 l5 _ _ _ ⟨ev5, g5, r1, r2⟩ => ?_)
        rw [ev5]
        exact Ends.eq (b627_82 l5 (by omega)) (Ends.g (Or.inl rfl) (Ends.sm (K _ _ ⟨g2.tr g5 (fun a z w => Or.inr (Or.inr w)), I2.agr g5 (fun a z w y => by unfold ivN at y; omega), Or.inr ⟨rfl, (j : Int), ⟨j, hj, rfl, G, o⟩, r1, r2⟩⟩)))
      refine Ends.eq (b627_10 l1 (by omega)) ?_
      rw [ev1]
      refine Ends.b3 (fun z => by omega) (fun _ => ?_)
      rw [hkq, v703_is hkd (by omega)]
      by_cases nm : kNm kd j = true
      · rw [if_pos nm]
        refine Ends.b0 (fun z => absurd z (by decide)) (fun _ => next q1 l1 g Iq (fun i hi ni => ?_) ?_)
        · rcases (by omega : i < j ∨ i = j) with z | z
          · exact P i z ni
          · rw [z, nm] at ni; exact absurd ni (by decide)
        · unfold fOK; rw [nm, Bool.true_or]
      rw [if_neg nm]
      have nm : kNm kd j = false := by rw [Bool.not_eq_true] at nm; exact nm
      obtain ⟨x, x1, x2, x3, x4⟩ := F j hj nm
      refine Ends.b0 (fun _ => Ends.g ⟨by omega, by omega⟩ (Ends.g ?_ ?_)) (fun z => absurd rfl z)
      · rw [tn, far _ _ (by omega), x1, ad_rf, g.hk]
        exact ⟨by unfold rf; omega, x2⟩
      rw [tn, far (f1 + 1) _ (by omega), x1, ad_rf, far x _ x3]
      refine Ends.ct l1 (by decide +kernel) (by decide) (c_givenI l1 (by omega) Iq x4) (fun v q2 l2 _ _ _ ⟨g2, I2, ev2⟩ => ?_)
      have G2 : Agr (fmvW B) h q2 := g.tr g2 (fun a z w => Or.inl w)
      have P2 : PmF B q2 c nv V kd f j := fun i hi ni => by rw [g2.at _ _ (by unfold wvW mfW; omega)]; exact P i hi ni
      have k198 : hk q2 (B + 198) = (2, 7) := l2.1 198 _ rfl
      refine Ends.eq (b627_45 l2 (by omega)) (Ends.g ?_ (Ends.g ⟨by omega, by omega⟩ ?_))
      · rw [ad_rf, k198]
        exact ⟨by unfold rf; omega, rfl, by omega, by show (j : Int) < ((7 : Nat) : Int); omega, by omega⟩
      rw [ad_rf, tn, an0, hv_set_at, ev2]
      by_cases gk : gkT c nv V (fdA f j) = true
      · rw [if_pos gk, show gwT c nv V (fdA f j) = fdNb c nv V f j from rfl]
        have b := fdNb_b (c := c) (nv := nv) (V := V) (f := f) (k := j)
        have l3 : LX B n (hset q2 (B + 198) j (fdNb c nv V f j)) := LX.setS l2 rfl
        have g3 : Agr (fun a _ => a = B + 198) q2 (hset q2 (B + 198) j (fdNb c nv V f j)) := Agr.rf.set rfl
        have G3 : Agr (fmvW B) h (hset q2 (B + 198) j (fdNb c nv V f j)) := G2.tr g3 (fun a z w => Or.inr (Or.inl w))
        have I3 : IvM B n c qd nv nc k0 V h (hset q2 (B + 198) j (fdNb c nv V f j)) := I2.agr g3 (fun a z w y => by unfold ivN at y; omega)
        have P3 : PmF B (hset q2 (B + 198) j (fdNb c nv V f j)) c nv V kd f (j + 1) := fun i hi ni => by
          by_cases z : i = j
          · rw [z, hv_set_at]
          · rw [hv_set_ne (fun w => z w.2)]; exact P2 i (by omega) ni
        refine Ends.b0 (fun z => by omega) (fun _ => ?_)
        obtain ⟨q3, e3⟩ : ∃ q3, q3 = hset q2 (B + 198) j (fdNb c nv V f j) := ⟨_, rfl⟩
        rw [← e3] at l3 G3 I3 P3 ⊢
        have hk3 : hv q3 f1 1 = (kd : Int) := by rw [G3.at _ _ (fun w => by have := fm_lt w; omega)]; exact hk
        rw [show hv q2 f1 1 = (kd : Int) from by rw [G2.at _ _ (fun w => by have := fm_lt w; omega)]; exact hk]
        refine Ends.ct l3 (by decide +kernel) (by decide) (c_isOut714 (w := fdNb c nv V f) l3 (by omega) hkd hj (fun k11 i hi => P3 i (by omega) (nm_no ⟨kd, hkd⟩ ⟨i, by omega⟩ (by have : kd = 11 ∨ kd = 19 := k11; show kd = 11 ∨ kd = 19 ∨ kd = 30 ∨ kd ≤ 13; omega))) (fun _ => fdNb_b)) (fun v q4 l4 _ _ _ ⟨e4, ev4⟩ => ?_)
        subst e4
        have oe : fOK c nv V kd f j = gdB kd j (fdNb c nv V f) := by unfold fOK; rw [nm, gk, Bool.false_or, Bool.true_and]
        refine Ends.eq (b627_73 l4 (by omega)) ?_
        rw [ev4]
        cases gd : gdB kd j (fdNb c nv V f)
        · exact Ends.b0 (fun z => absurd z (by decide)) (fun _ => bad q4 l4 G3 I3 (by rw [oe, gd]))
        · exact Ends.b0 (fun _ => next q4 l4 G3 I3 P3 (by rw [oe, gd])) (fun z => absurd rfl z)
      · have gk : gkT c nv V (fdA f j) = false := by rw [Bool.not_eq_true] at gk; exact gk
        rw [if_neg (by rw [gk]; decide)]
        have g3 : Agr (fun a _ => a = B + 198) q2 (hset q2 (B + 198) j 100000) := Agr.rf.set rfl
        exact Ends.b0 (fun _ => bad _ (LX.setS l2 rfl) (G2.tr g3 (fun a z w => Or.inr (Or.inl w))) (I2.agr g3 (fun a z w y => by unfold ivN at y; omega)) (by unfold fOK; rw [nm, gk]; rfl)) (fun z => absurd rfl z)
  exact main (fnN kd) 0 h (Nat.zero_add _) l Agr.rf I (fun k hk => absurd hk (Nat.not_lt_zero _)) (fun k hk => absurd hk (Nat.not_lt_zero _))
end FDM
