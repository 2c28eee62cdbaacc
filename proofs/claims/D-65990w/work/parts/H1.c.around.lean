/-! L3: round an edge (model) -/
section ARE
variable {gv : Nat → Int} {B n d G : Nat} {h : AH}
/-- the number of a corner -/
def cnrN (n g k : Nat) : Nat := rw3 (2 * n + 1) (mcC n g k 2) (mcC n g k 1) (mcC n g k 0)
theorem coT_le : ∀ t : Fin 24, ∀ k : Fin 4, ∀ a : Fin 3, coT t k a ≤ 2 := by decide +kernel
theorem mcC_le {g k a : Nat} (hg : g < gN n) (hk : k < 4) (ha : a < 3) : mcC n g k a < 2 * n + 1 := by
  have h1 := (gCu_8 hg ha).2
  have h2 := coT_le ⟨gSo g, (g_lt hg).2.2.2.2⟩ ⟨k, hk⟩ ⟨a, ha⟩
  simp only at h2
  unfold mcC
  omega
theorem cnN_le {g k : Nat} (hn : n ≤ 52) (hg : g < gN n) (hk : k < 4) : cnrN n g k < 2000000 := by
  have a0 := mcC_le hg hk (show 0 < 3 by decide)
  have a1 := mcC_le hg hk (show 1 < 3 by decide)
  have a2 := mcC_le hg hk (show 2 < 3 by decide)
  unfold cnrN rw3
  have b1 : mcC n g k 2 * (2 * n + 1) ≤ 105 * 105 := Nat.mul_le_mul (by omega) (by omega)
  have b2 : (mcC n g k 2 * (2 * n + 1) + mcC n g k 1) * (2 * n + 1) ≤ 12000 * 105 := Nat.mul_le_mul (by omega) (by omega)
  omega
theorem cnN_eq {g g' k k' : Nat} (hg : g < gN n) (hg' : g' < gN n) (hk : k < 4) (hk' : k' < 4) : cnrN n g k = cnrN n g' k' ↔ ∀ a, a < 3 → mcC n g k a = mcC n g' k' a := by
  unfold cnrN
  rw [rw3_inj (mcC_le hg hk (by decide)) (mcC_le hg hk (by decide)) (mcC_le hg' hk' (by decide)) (mcC_le hg' hk' (by decide))]
  constructor
  · rintro ⟨e2, e1, e0⟩ a ha
    rcases (by omega : a = 0 ∨ a = 1 ∨ a = 2) with rfl | rfl | rfl <;> assumption
  · intro e
    exact ⟨e 2 (by decide), e 1 (by decide), e 0 (by decide)⟩
theorem v583_is {g k : Nat} (hn : n ≤ 52) (hg : g < gN n) (hk : k < 4) (I : ∀ k a, k < 4 → a < 3 → hv h (B + 189) (3 * k + a) = ((mcC n g k a : Nat) : Int)) : q583 B n h (k : Int) ∧ v583 B n h (k : Int) = ((cnrN n g k : Nat) : Int) := by
  have a0 := mcC_le hg hk (show 0 < 3 by decide)
  have a1 := mcC_le hg hk (show 1 < 3 by decide)
  have a2 := mcC_le hg hk (show 2 < 3 by decide)
  have b1 : (2 * n + 1) * mcC n g k 2 ≤ 105 * 105 := Nat.mul_le_mul (by omega) (by omega)
  have b2 : ((2 * n + 1) * mcC n g k 2 + mcC n g k 1) * (2 * n + 1) ≤ 12000 * 105 := Nat.mul_le_mul (by omega) (by omega)
  have i0 := I k 0 hk (by decide)
  rw [show 3 * k + 0 = 3 * k from rfl] at i0
  unfold q583 v583
  rw [show bop32 104 (3 : Int) (k : Int) = ((3 * k : Nat) : Int) from mulNN (x := 3) (by omega), show bop32 96 ((3 * k : Nat) : Int) 2 = ((3 * k + 2 : Nat) : Int) from addNN (y := 2) (by omega), show bop32 96 ((3 * k : Nat) : Int) 1 = ((3 * k + 1 : Nat) : Int) from addNN (y := 1) (by omega), tn, tn, tn, I k 2 hk (by decide), I k 1 hk (by decide), i0, show bop32 104 (2 : Int) (n : Int) = ((2 * n : Nat) : Int) from mulNN (x := 2) (by omega), show bop32 96 ((2 * n : Nat) : Int) 1 = ((2 * n + 1 : Nat) : Int) from addNN (y := 1) (by omega), mulNN (by omega), addNN (by omega), mulNN (by omega), addNN (by omega)]
  refine ⟨⟨⟨by omega, by omega⟩, ⟨by omega, by omega⟩, by omega, by omega⟩, ?_⟩
  congr 1
  unfold cnrN rw3
  rw [Nat.mul_comm (2 * n + 1) (mcC n g k 2)]
theorem v670_is {f k : Nat} (hf : f < 4) (hk : k < 4) : v670 (f : Int) (k : Int) = if hcB f k = true then 1 else 0 := by
  rcases (by omega : f = 0 ∨ f = 1 ∨ f = 2 ∨ f = 3) with rfl | rfl | rfl | rfl <;> rcases (by omega : k = 0 ∨ k = 1 ∨ k = 2 ∨ k = 3) with rfl | rfl | rfl | rfl <;> rfl
/-- the first of some, the second -/
def oneF (N : Nat → Int) (cm : Nat → Bool) : Nat → Int
  | 0 => -1
  | j + 1 => if cm j = true then (if oneF N cm j < 0 then N j else oneF N cm j) else oneF N cm j
def twoF (N : Nat → Int) (cm : Nat → Bool) : Nat → Int
  | 0 => -1
  | j + 1 => if cm j = true then (if oneF N cm j < 0 then twoF N cm j else N j) else twoF N cm j
theorem pick3 {P Q : Prop} [Decidable P] [Decidable Q] {r : Bool} (h : (P ∨ Q) ↔ r = true) (a b : Int) : (if P then a else if Q then a else b) = if (!r) = true then b else a := by
  by_cases p : P
  · rw [if_pos p, h.mp (Or.inl p)]; rfl
  · rw [if_neg p]
    by_cases q : Q
    · rw [if_pos q, h.mp (Or.inr q)]; rfl
    · rw [if_neg q, show r = false from Bool.eq_false_iff.mpr (fun z => (h.mpr z).elim p q)]; rfl
theorem oneF_4 {N : Nat → Int} {cm : Nat → Bool} (hN : ∀ k, 0 ≤ N k) (h : rBt (fun k => !cm k) = true) : oneF N cm 4 = N (rFa (fun k => !cm k)) ∧ twoF N cm 4 = N (rLb (fun k => !cm k)) := by
  have n0 : ¬ N 0 < 0 := by have := hN 0; omega
  have n1 : ¬ N 1 < 0 := by have := hN 1; omega
  have n2 : ¬ N 2 < 0 := by have := hN 2; omega
  have n3 : ¬ N 3 < 0 := by have := hN 3; omega
  revert h
  unfold rBt rFa rLb
  simp only [oneF, twoF]
  rcases Bool.eq_false_or_eq_true (cm 0) with h0 | h0 <;> rcases Bool.eq_false_or_eq_true (cm 1) with h1 | h1 <;> rcases Bool.eq_false_or_eq_true (cm 2) with h2 | h2 <;> rcases Bool.eq_false_or_eq_true (cm 3) with h3 | h3 <;> simp [h0, h1, h2, h3, n0, n1, n2, n3]
theorem rcE_iff {N k i v : Nat} (r : RpG n G v N) (hG : G < gN n) (hk : k < 4) (hi : i < 4) : rcE (gSo G) i v k = true ↔ ∀ a, a < 3 → mcC n N k a = mcC n G i a := by
  obtain ⟨r1, r2, r3⟩ := r
  have t1 := (g_lt r1).2.2.2.2
  have t2 := (g_lt hG).2.2.2.2
  have q : ∀ a, a < 3 → ((2 * rvC v a + coP (rvT v) k a == 2 + coP (gSo G) i a) = true ↔ mcC n N k a = mcC n G i a) := fun a ha => by
    rw [beq_iff_eq, coP_is (by omega) hk ha, coP_is t2 hi ha]
    unfold mcC
    rw [r2]
    have := r3 a ha
    omega
  unfold rcE
  rw [Bool.and_eq_true, Bool.and_eq_true, q 0 (by decide), q 1 (by decide), q 2 (by decide)]
  constructor
  · rintro ⟨h0, h1, h2⟩ a ha
    rcases (by omega : a = 0 ∨ a = 1 ∨ a = 2) with rfl | rfl | rfl <;> assumption
  · intro e
    exact ⟨e 0 (by decide), e 1 (by decide), e 2 (by decide)⟩
theorem hit_bs {K o v N x : Nat} (hK : K < 4 * gN n) (eG : G = K / 4) (r : RpG n G v N) (hx : x < 4) (e : rHit (gSo G) (K % 4) o v x = true) : bsd n K (sdT (K % 4) o) = ((4 * N + x : Nat) : Int) := by
  obtain ⟨r1, r2, r3⟩ := r
  obtain ⟨-, g1, g2, g3, g4⟩ := g_lt r1
  unfold rHit at e
  rw [Bool.and_eq_true, Bool.and_eq_true, Bool.and_eq_true, beq_iff_eq, beq_iff_eq, beq_iff_eq, beq_iff_eq] at e
  obtain ⟨e0, e1, e2, e3⟩ := e
  have k96 : 4 * gSo G + K % 4 = K % 96 := by rw [eG]; exact K96.symm
  rw [k96] at e0 e1 e2 e3
  have q0 := r3 0 (by decide)
  have q1 := r3 1 (by decide)
  have q2 := r3 2 (by decide)
  have p0 : (gCu n N 0 : Int) = (gX n N : Int) := rfl
  have p1 : (gCu n N 1 : Int) = (gY n N : Int) := rfl
  have p2 : (gCu n N 2 : Int) = (gZ n N : Int) := rfl
  have s0 : (gCu n G 0 : Int) = (gX n (K / 4) : Int) := by rw [eG]; rfl
  have s1 : (gCu n G 1 : Int) = (gY n (K / 4) : Int) := by rw [eG]; rfl
  have s2 : (gCu n G 2 : Int) = (gZ n (K / 4) : Int) := by rw [eG]; rfl
  rw [bsd_at sdT_lt (x := gX n N) (y := gY n N) (z := gZ n N) g1 g2 g3 (by unfold bsX; omega) (by unfold bsY; omega) (by unfold bsZ; omega), ← e0]
  congr 1
  rw [show (4 * rvT v + x) / 4 = rvT v by omega, show (4 * rvT v + x) % 4 = x by omega, ← r2, gI_g]
/-- what going round an edge leaves -/
def AeS (B n : Nat) (S V D : Nat → Bool) (lo K s : Nat) (hit : Prop) (q : AH) : Prop :=
  (MFl B n q V D lo ∧ (hit → ∀ Y : Nat, bsd n K s = (Y : Int) → ¬ (V Y = false ∧ bdr n S Y = true))) ∨ ∃ Y : Nat, bsd n K s = (Y : Int) ∧ (V Y = false ∧ bdr n S Y = true) ∧ MFl B n q (fun x => V x || decide (x = Y)) (fun x => D x || decide (x = Y)) (min lo (Y / 64))
def aeW (B : Nat) : Nat → Nat → Prop := fun c k => ntW B c k ∨ (c = B + 189 ∧ k < 12)
theorem MFl.agr {W : Nat → Nat → Prop} {t : AH} {V D : Nat → Bool} {lo : Nat} (f : MFl B n h V D lo) (g : Agr W h t) (hW : ∀ c k, W c k → c ≠ B + 238 ∧ c ≠ B + 239 ∧ ¬ (c = B + 149 ∧ (k = 88 ∨ k = 89))) : MFl B n t V D lo := ⟨f.1.agr g (fun k z => (hW _ _ z).1 rfl), f.2.1.agr g (fun k z => (hW _ _ z).2.1 rfl), by rw [g.at _ _ (fun z => (hW _ _ z).2.2 ⟨rfl, Or.inr rfl⟩)]; exact f.2.2.1, by rw [g.at _ _ (fun z => (hW _ _ z).2.2 ⟨rfl, Or.inl rfl⟩)]; exact f.2.2.2⟩
set_option maxHeartbeats 8000000 in
theorem c_aroundEdge550 {s lo K o b : Nat} {S V D : Nat → Bool} (l : LX B n h) (hd : 18 ≤ d) (hn : n ≤ 52) (m : TbM B h) (hs : s < 19) (bS : MB B n h s S) (hK : K < 4 * gN n) (ho : o < 4) (hfo : K % 4 ≠ o) (hb : b < 2) (fl : MFl B n h V D lo) (hVD : ∀ x, D x = true → V x = true) :
    Vd (cll PP (ev PP (gsF gv) B) d 550 [(2, rf (B + 149)), (0, (s : Int)), (0, (K : Int)), (0, (o : Int)), (0, ((if b = 0 then o else K % 4 : Nat) : Int)), (0, (nvI (drT (K % 96)) 0)), (0, (nvI (drT (K % 96)) 1)), (0, (nvI (drT (K % 96)) 2))] h) (fun h' => Agr (aeW B) h h' ∧ AeS B n S V D lo K (sdT (K % 4) o) (∃ j, rArc (gSo (K / 4)) (K % 4) o b j = true) h') := by
  have hG := gN_le hn
  obtain ⟨G, eG⟩ : ∃ G, G = K / 4 := ⟨_, rfl⟩
  obtain ⟨f, ef⟩ : ∃ f, f = K % 4 := ⟨_, rfl⟩
  obtain ⟨t, et⟩ : ∃ t, t = gSo G := ⟨_, rfl⟩
  obtain ⟨dd, ed⟩ : ∃ dd, dd = drT (K % 96) := ⟨_, rfl⟩
  obtain ⟨sd, esd⟩ : ∃ sd, sd = sdT f o := ⟨_, rfl⟩
  have hGn : G < gN n := by omega
  have t24 : t < 24 := by rw [et]; exact (g_lt hGn).2.2.2.2
  have f4 : f < 4 := by omega
  have k96 : K % 96 = 4 * t + f := by rw [et, ef, eG]; exact K96
  have dd27 : dd < 27 := by rw [ed]; exact (fcC_le K96_lt (show 0 < 9 by decide)).2
  have sdl : sd < 3 := by rw [esd]; exact sdT_lt
  rw [← ed, ← eG, ← ef, ← et, ← esd]
  rw [← ef] at hfo
  refine Vd.inq (D := 17) hd (Nat.le_of_ble_eq_true rfl) rfl (fun d hd Q KK => ?_)
  have tb : ∀ {q : AH}, Agr (aeW B) h q → TbM B q := fun g => m.agr g (fun c k h1 h2 _ z => by unfold aeW ntW at z; omega)
  have sb : ∀ {q : AH}, Agr (aeW B) h q → MB B n q s S := fun g => bS.agr g (fun k _ z => by unfold aeW ntW at z; omega)
  -- a note
  have nt : ∀ (q : AH) (hit : Prop) (Y1 : Nat), LX B n q → Agr (aeW B) h q → AeS B n S V D lo K sd hit q → Y1 < 4 * gN n → (drT (Y1 % 96) = dd → bsd n K sd = (Y1 : Int)) → Vd (cll PP (ev PP (gsF gv) B) d 766 [(2, rf (B + 149)), (0, (s : Int)), (0, (Y1 : Int)), (0, nvI dd 0), (0, nvI dd 1), (0, nvI dd 2)] q) (fun q' => Agr (aeW B) h q' ∧ AeS B n S V D lo K sd (hit ∨ bsd n K sd = (Y1 : Int)) q') := by
    intro q hit Y1 lq g st hY dr
    rcases st with ⟨a1, a2⟩ | ⟨Y, a1, a2, a3⟩
    · obtain ⟨h', e, g', r⟩ := c_note766 (gv := gv) (d := d) lq (by omega) hn (tb g) hs (sb g) hY dd27 a1 (hVD Y1)
      refine ⟨h', e, g.tr g' (fun c k z => Or.inl z), ?_⟩
      rcases r with ⟨r1, r2⟩ | ⟨⟨r1, r2, r3⟩, r4⟩
      · refine Or.inl ⟨r2, fun z Y eY no => ?_⟩
        rcases z with z | z
        · exact a2 z Y eY no
        · have : Y = Y1 := by omega
          subst this
          exact r1 ⟨no.1, no.2, by rw [ed]; exact (of2_bs sdl eY).1⟩
      · exact Or.inr ⟨Y1, dr r3, ⟨r1, r2⟩, r4⟩
    · obtain ⟨h', e, g', r⟩ := c_note766 (gv := gv) (d := d) lq (by omega) hn (tb g) hs (sb g) hY dd27 a3 (fun z => by
        show (V Y1 || decide (Y1 = Y)) = true
        have z : (D Y1 || decide (Y1 = Y)) = true := z
        rw [Bool.or_eq_true] at z ⊢
        exact z.imp (hVD Y1) id)
      refine ⟨h', e, g.tr g' (fun c k z => Or.inl z), ?_⟩
      rcases r with ⟨r1, r2⟩ | ⟨⟨r1, r2, r3⟩, r4⟩
      · exact Or.inr ⟨Y, a1, a2, r2⟩
      · have : Y1 = Y := by have := dr r3; omega
        rw [this] at r1
        simp at r1
  -- the grain's corners
  refine Ends.eq (b550_0 l (by omega)) ?_
  rw [show bop32 108 (K : Int) 4 = ((G : Nat) : Int) from by rw [eG]; exact divNN (y := 4) (by omega) (by decide), show bop32 112 (K : Int) 4 = ((f : Nat) : Int) from by rw [ef]; exact modNN (y := 4) (by decide) (by decide)]
  refine Ends.cv l (by decide +kernel) (c_corners584f l (by omega) hn m hGn) (fun h1 l1 _ _ _ ⟨g1, I1⟩ => ?_)
  have G1 : Agr (aeW B) h h1 := g1.sub (fun c k z => Or.inr z)
  have fl1 : MFl B n h1 V D lo := fl.agr g1 (fun c k z => by omega)
  refine Ends.eq (b550_16 l1 (by omega)) ?_
  have cmc : ∀ k, (fun k => !(!(hcB f k && hcB o k))) k = (hcB f k && hcB o k) := fun k => by simp
  obtain ⟨L4, L8, c1l, c2l, cne⟩ := rgL_is ⟨f, f4⟩ ⟨o, ho⟩ (fun e => hfo (by have := congrArg Fin.val e; exact this))
  simp only at L4 L8 c1l c2l cne
  have cm12 : rBt (fun k => !(hcB f k && hcB o k)) = true := by
    have : ∀ f o : Fin 4, f ≠ o → rBt (fun k => !(hcB f k && hcB o k)) = true := by decide +kernel
    exact this ⟨f, f4⟩ ⟨o, ho⟩ (fun e => hfo (by have := congrArg Fin.val e; exact this))
  obtain ⟨NN, eNN⟩ : ∃ NN : Nat → Int, NN = fun k => ((cnrN n G k : Nat) : Int) := ⟨_, rfl⟩
  obtain ⟨w1, w2⟩ := oneF_4 (N := NN) (cm := fun k => hcB f k && hcB o k) (fun k => by rw [eNN]; exact Int.natCast_nonneg _) cm12
  have w1 : oneF NN (fun k => hcB f k && hcB o k) 4 = ((cnrN n G (cm1 f o) : Nat) : Int) := by rw [w1, eNN]; rfl
  have w2 : twoF NN (fun k => hcB f k && hcB o k) 4 = ((cnrN n G (cm2 f o) : Nat) : Int) := by rw [w2, eNN]; rfl
  obtain ⟨by', eby⟩ : ∃ x, x = (if b = 0 then o else f) := ⟨_, rfl⟩
  rw [← eby]
  -- the ring
  have ring := rg_is t24 f4 ho hfo hb
  unfold rgnW at ring
  rw [Bool.and_eq_true, Bool.and_eq_true, Bool.and_eq_true, Bool.and_eq_true, Bool.and_eq_true, Bool.and_eq_true, beq_iff_eq, beq_iff_eq, beq_iff_eq, beq_iff_eq, beq_iff_eq] at ring
  obtain ⟨⟨st0, out0⟩, steps, z0, z1, z2, z3⟩ := ring
  obtain ⟨L, eL⟩ : ∃ L, L = rgL f o := ⟨_, rfl⟩
  rw [← eL] at L4 L8 steps z0 z1 z2 z3
  obtain ⟨vv, evv⟩ : ∃ vv : Nat → Nat, vv = rgnV t f o b := ⟨_, rfl⟩
  rw [← evv] at st0 out0 z0 z1 z2 z3
  have steps : ∀ i, i < L - 1 → rgnS t f o (vv i) (vv (i + 1)) = true := fun i hi => by rw [evv]; exact alB_t steps i hi
  rw [← eby] at out0
  have start : RpG n G (vv 0) G := by
    unfold rSt at st0
    rw [Bool.and_eq_true, Bool.and_eq_true, Bool.and_eq_true, beq_iff_eq, beq_iff_eq, beq_iff_eq, beq_iff_eq] at st0
    refine ⟨hGn, by rw [st0.2.2.2, et], fun a ha => ?_⟩
    rcases (by omega : a = 0 ∨ a = 1 ∨ a = 2) with rfl | rfl | rfl
    · rw [st0.1]; omega
    · rw [st0.2.1]; omega
    · rw [st0.2.2.1]; omega
  have hits : ∀ {v N x : Nat}, RpG n G v N → x < 4 → rHit t f o v x = true → bsd n K sd = ((4 * N + x : Nat) : Int) := fun {v N x} r hx e => by
    rw [esd, ef]
    rw [et, ef] at e
    exact hit_bs hK eG r hx e
  obtain ⟨Hi, eHi⟩ : ∃ Hi : Nat → Prop, Hi = fun i => ∃ j, j + 1 ≤ i ∧ (rHit t f o (vv (j + 1)) (rvB (vv (j + 1))) = true ∨ rHit t f o (vv (j + 1)) (rvO (vv (j + 1))) = true) := ⟨_, rfl⟩
  -- the end of it
  have stop : ∀ (q : AH) (i : Nat) (x14 : Int) (u13 u15 u16 u17 : AV) (N x : Nat), LX B n q → Agr (aeW B) h q → AeS B n S V D lo K sd (Hi i) q → ((∃ j, rArc t f o b j = true) → ∀ Y : Nat, bsd n K sd = (Y : Int) → Hi i) → Ends (ev PP (gsF gv) B d 550 115 [(2, rf (B + 149)), (0, (s : Int)), (0, (K : Int)), (0, (o : Int)), (0, ((by' : Nat) : Int)), (0, nvI dd 0), (0, nvI dd 1), (0, nvI dd 2), (0, (G : Int)), (0, (f : Int)), (0, ((cnrN n G (cm1 f o) : Nat) : Int)), (0, ((cnrN n G (cm2 f o) : Nat) : Int)), (0, (N : Int)), (0, (x : Int)), (0, x14), u15, u16, u17] [] q) Q := by
    intro q i x14 u13 u15 u16 u17 N x lq g st fin
    refine Ends.eq (b550_115 lq (by omega)) (Ends.sm (KK _ ⟨g, ?_⟩))
    rcases st with ⟨a1, a2⟩ | a
    · refine Or.inl ⟨a1, fun hj Y eY => a2 (fin hj Y eY) Y eY⟩
    · exact Or.inr a
  have loop : ∀ (r i : Nat) (q : AH) (N : Nat) (u14 u15 u16 u17 : AV), i + 1 + r = L → LX B n q → Agr (aeW B) h q → AeS B n S V D lo K sd (Hi i) q → RpG n G (vv i) N → Ends (ev PP (gsF gv) B d 550 93 [(2, rf (B + 149)), (0, (s : Int)), (0, (K : Int)), (0, (o : Int)), (0, ((by' : Nat) : Int)), (0, nvI dd 0), (0, nvI dd 1), (0, nvI dd 2), (0, (G : Int)), (0, (f : Int)), (0, ((cnrN n G (cm1 f o) : Nat) : Int)), (0, ((cnrN n G (cm2 f o) : Nat) : Int)), (0, (N : Int)), (0, ((rvO (vv i) : Nat) : Int)), u14, u15, u16, u17] [] q) Q := by
    intro r
    induction r with
    | zero =>
      intro i q N u14 u15 u16 u17 ei lq g st r
      obtain rfl : i = L - 1 := by omega
      have all : (∃ j, rArc t f o b j = true) → ∀ Y : Nat, bsd n K sd = (Y : Int) → Hi (L - 1) := fun ⟨j, hj⟩ Y eY => by
        unfold rArc at hj
        rw [Bool.and_eq_true, Bool.and_eq_true, Bool.or_eq_true, ← eL, ← evv] at hj
        have := blt_lt hj.1
        rw [eHi]
        exact ⟨j, by omega, hj.2.1⟩
      obtain ⟨qn, vn⟩ := nbr_is (tb g) hn r.1 (f := rvO (vv (L - 1))) rvO_lt
      refine Ends.eq (b550_93 lq (by omega)) (Ends.g qn ?_)
      rw [vn]
      rcases r.next (x := rvO (vv (L - 1))) rvO_lt with ⟨w, -⟩ | ⟨N', w1, w2, w3, w4⟩
      · rw [w]
        exact Ends.b2 (fun _ => stop q _ _ (9, 0) _ _ _ N _ lq g st all) (fun z => absurd z (by decide))
      · have : N' = G := by
          have u : RpG n G (vv 0) N' := by
            unfold rSt at st0
            rw [Bool.and_eq_true, Bool.and_eq_true, Bool.and_eq_true, beq_iff_eq, beq_iff_eq, beq_iff_eq, beq_iff_eq] at st0
            refine ⟨w2, by rw [w3, z3, st0.2.2.2], fun a ha => ?_⟩
            have := w4 a ha
            rcases (by omega : a = 0 ∨ a = 1 ∨ a = 2) with rfl | rfl | rfl
            · rw [st0.1]; omega
            · rw [st0.2.1]; omega
            · rw [st0.2.2.1]; omega
          exact (u.uniq start).mpr ⟨fun _ _ => rfl, rfl⟩
        rw [w1, this]
        exact Ends.b2 (fun z => absurd z (by omega)) (fun _ => Ends.b1 (fun z => absurd rfl z) (fun _ => stop q _ _ (9, 0) _ _ _ N _ lq g st all))
    | succ r ih =>
      intro i q N u14 u15 u16 u17 ei lq g st rp
      have hi : i < L - 1 := by omega
      have sp := steps i hi
      unfold rgnS at sp
      rw [Bool.and_eq_true, Bool.and_eq_true, Bool.and_eq_true, Bool.and_eq_true, Bool.and_eq_true, Bool.and_eq_true, Bool.not_eq_true'] at sp
      obtain ⟨p1, p2, p3, p4, p5, p6, p7⟩ := sp
      have p40 := p4
      unfold rBt at p4
      rw [Bool.and_eq_true] at p4
      have p4 := blt_lt p4.1
      obtain ⟨qn, vn⟩ := nbr_is (tb g) hn rp.1 (f := rvO (vv i)) rvO_lt
      refine Ends.eq (b550_93 lq (by omega)) (Ends.g qn ?_)
      rw [vn]
      have nn := rp.next (x := rvO (vv i)) rvO_lt
      rcases nn with ⟨w, a, ha, w2, w3⟩ | ⟨N', w1, -⟩
      · rw [w]
        refine Ends.b2 (fun _ => stop q i _ (9, 0) _ _ _ N _ lq g st (fun ⟨j, hj⟩ Y eY => ?_)) (fun z => absurd z (by decide))
        unfold rArc at hj
        rw [Bool.and_eq_true, Bool.and_eq_true, Bool.or_eq_true, ← eL, ← evv] at hj
        have hj1 := blt_lt hj.1
        by_cases y : j + 1 ≤ i
        · rw [eHi]; exact ⟨j, y, hj.2.1⟩
        · exfalso
          have bx := alB_t hj.2.2 i (by omega)
          unfold rBox at bx
          rw [Bool.and_eq_true, Bool.and_eq_true, Bool.or_eq_true, Bool.or_eq_true, Bool.or_eq_true, beq_iff_eq, beq_iff_eq, beq_iff_eq, beq_iff_eq, beq_iff_eq, beq_iff_eq, ← k96, ← esd] at bx
          obtain ⟨y1, y2, y3, y4, y5⟩ := bsd_dec sdl eY
          have lY := (g_lt (K4_lt y1))
          have e2 := (rnE_iff.mp p2).1 a ha
          rw [w3] at e2
          have e3 : rnC (vv i) 0 a = rvC (vv i) a + spP (rvT (vv i)) a := by unfold rnC; rw [if_pos rfl]
          have lG := (gCu_8 hGn ha).2
          have cc : rvC (vv (i + 1)) a = 1 ∨ rvC (vv (i + 1)) a = bcU (K % 96) sd a := by
            rcases (by omega : a = 0 ∨ a = 1 ∨ a = 2) with rfl | rfl | rfl
            · exact bx.1
            · exact bx.2.1
            · exact bx.2.2
          rcases cc with cc | cc
          · omega
          · have k0 : (gCu n G 0 : Int) = (gX n (K / 4) : Int) := by rw [eG]; rfl
            have k1 : (gCu n G 1 : Int) = (gY n (K / 4) : Int) := by rw [eG]; rfl
            have k2 : (gCu n G 2 : Int) = (gZ n (K / 4) : Int) := by rw [eG]; rfl
            unfold bsX at y3
            unfold bsY at y4
            unfold bsZ at y5
            rcases (by omega : a = 0 ∨ a = 1 ∨ a = 2) with rfl | rfl | rfl <;> omega
      · rw [w1]
        have rp' := rp.to rvO_lt p2 w1
        have neG : N' ≠ G := fun e => by
          have := (rp'.uniq start).mp e
          unfold rSt at st0 p3
          rw [this.1 0 (by decide), this.1 1 (by decide), this.1 2 (by decide), this.2, st0] at p3
          exact absurd p3 (by decide)
        refine Ends.b2 (fun z => absurd z (by omega)) (fun _ => Ends.b1 (fun _ => ?_) (fun z => absurd (by omega : N' = G) neG))
        refine Ends.cv lq (by decide +kernel) (c_corners584f lq (by omega) hn (tb g) rp'.1) (fun q1 lq1 _ _ _ ⟨gq1, Iq1⟩ => ?_)
        have g2 : Agr (aeW B) h q1 := g.tr gq1 (fun c k z => Or.inr z)
        have st1 : AeS B n S V D lo K sd (Hi i) q1 := st.imp (fun z => ⟨z.1.agr gq1 (fun c k y => by omega), z.2⟩) (fun ⟨Y, y1, y2, y3⟩ => ⟨Y, y1, y2, y3.agr gq1 (fun c k y => by omega)⟩)
        refine Ends.eq (b550_122 lq1 (by omega)) ?_
        have ons : ∀ k, k < 4 → ((((cnrN n N' k : Nat) : Int) = ((cnrN n G (cm1 f o) : Nat) : Int) ∨ ((cnrN n N' k : Nat) : Int) = ((cnrN n G (cm2 f o) : Nat) : Int)) ↔ rOn t f o (vv (i + 1)) k = true) := fun k hk => by
          unfold rOn
          rw [Bool.or_eq_true, et, rcE_iff rp' hGn hk c1l, rcE_iff rp' hGn hk c2l, ← cnN_eq rp'.1 hGn hk c1l, ← cnN_eq rp'.1 hGn hk c2l]
          omega
        -- which corners are not on the edge
        have cl : ∀ (r2 j : Nat), j + r2 = 4 → (Ends (ev PP (gsF gv) B d 550 131 [(2, rf (B + 149)), (0, (s : Int)), (0, (K : Int)), (0, (o : Int)), (0, ((by' : Nat) : Int)), (0, nvI dd 0), (0, nvI dd 1), (0, nvI dd 2), (0, (G : Int)), (0, (f : Int)), (0, ((cnrN n G (cm1 f o) : Nat) : Int)), (0, ((cnrN n G (cm2 f o) : Nat) : Int)), (0, (N : Int)), (0, ((rvO (vv i) : Nat) : Int)), (0, (N' : Int)), (0, oneF (fun k => (k : Int)) (fun k => !rOn t f o (vv (i + 1)) k) 4), (0, twoF (fun k => (k : Int)) (fun k => !rOn t f o (vv (i + 1)) k) 4), (0, ((4 : Nat) : Int))] [] q1) Q) → Ends (ev PP (gsF gv) B d 550 131 [(2, rf (B + 149)), (0, (s : Int)), (0, (K : Int)), (0, (o : Int)), (0, ((by' : Nat) : Int)), (0, nvI dd 0), (0, nvI dd 1), (0, nvI dd 2), (0, (G : Int)), (0, (f : Int)), (0, ((cnrN n G (cm1 f o) : Nat) : Int)), (0, ((cnrN n G (cm2 f o) : Nat) : Int)), (0, (N : Int)), (0, ((rvO (vv i) : Nat) : Int)), (0, (N' : Int)), (0, oneF (fun k => (k : Int)) (fun k => !rOn t f o (vv (i + 1)) k) j), (0, twoF (fun k => (k : Int)) (fun k => !rOn t f o (vv (i + 1)) k) j), (0, (j : Int))] [] q1) Q := by
          intro r2
          induction r2 with
          | zero =>
            intro j ej fin
            obtain rfl : j = 4 := by omega
            exact fin
          | succ r2 ih2 =>
            intro j ej fin
            have hj : j < 4 := by omega
            obtain ⟨qc, vc⟩ := v583_is (h := q1) hn rp'.1 hj Iq1
            refine Ends.eq (b550_131 lq1 (by omega)) (Ends.b3 (fun z => absurd z (by omega)) (fun _ => Ends.g qc ?_))
            rw [vc, w_succ (by omega), ct0, ct0, ct1, ct1, ct3, ct3]
            have on := ons j hj
            have e1 : (if ((cnrN n N' j : Nat) : Int) = ((cnrN n G (cm1 f o) : Nat) : Int) then oneF (fun k => (k : Int)) (fun k => !rOn t f o (vv (i + 1)) k) j else if ((cnrN n N' j : Nat) : Int) = ((cnrN n G (cm2 f o) : Nat) : Int) then oneF (fun k => (k : Int)) (fun k => !rOn t f o (vv (i + 1)) k) j else if oneF (fun k => (k : Int)) (fun k => !rOn t f o (vv (i + 1)) k) j < 0 then (j : Int) else oneF (fun k => (k : Int)) (fun k => !rOn t f o (vv (i + 1)) k) j) = oneF (fun k => (k : Int)) (fun k => !rOn t f o (vv (i + 1)) k) (j + 1) := by
              show _ = if (!rOn t f o (vv (i + 1)) j) = true then (if oneF (fun k => (k : Int)) (fun k => !rOn t f o (vv (i + 1)) k) j < 0 then (j : Int) else oneF (fun k => (k : Int)) (fun k => !rOn t f o (vv (i + 1)) k) j) else oneF (fun k => (k : Int)) (fun k => !rOn t f o (vv (i + 1)) k) j
              exact pick3 on _ _
            have e2 : (if ((cnrN n N' j : Nat) : Int) = ((cnrN n G (cm1 f o) : Nat) : Int) then twoF (fun k => (k : Int)) (fun k => !rOn t f o (vv (i + 1)) k) j else if ((cnrN n N' j : Nat) : Int) = ((cnrN n G (cm2 f o) : Nat) : Int) then twoF (fun k => (k : Int)) (fun k => !rOn t f o (vv (i + 1)) k) j else if oneF (fun k => (k : Int)) (fun k => !rOn t f o (vv (i + 1)) k) j < 0 then twoF (fun k => (k : Int)) (fun k => !rOn t f o (vv (i + 1)) k) j else (j : Int)) = twoF (fun k => (k : Int)) (fun k => !rOn t f o (vv (i + 1)) k) (j + 1) := by
              show _ = if (!rOn t f o (vv (i + 1)) j) = true then (if oneF (fun k => (k : Int)) (fun k => !rOn t f o (vv (i + 1)) k) j < 0 then twoF (fun k => (k : Int)) (fun k => !rOn t f o (vv (i + 1)) k) j else (j : Int)) else twoF (fun k => (k : Int)) (fun k => !rOn t f o (vv (i + 1)) k) j
              exact pick3 on _ _
            rw [e1, e2]
            exact ih2 (j + 1) (by omega) fin
        refine cl 4 0 rfl ?_
        have nno : (fun k => !(!rOn t f o (vv (i + 1)) k)) = rOn t f o (vv (i + 1)) := by funext k; simp
        obtain ⟨x15, x16⟩ := oneF_4 (N := fun k => (k : Int)) (cm := fun k => !rOn t f o (vv (i + 1)) k) (fun k => Int.natCast_nonneg k) (by show rBt (fun k => !(!rOn t f o (vv (i + 1)) k)) = true; rw [nno]; exact p40)
        rw [nno] at x15 x16
        rw [x15, x16]
        clear x15 x16 cl
        obtain ⟨a, ea⟩ : ∃ a, a = rFa (rOn t f o (vv (i + 1))) := ⟨_, rfl⟩
        obtain ⟨c, ec⟩ : ∃ c, c = rLb (rOn t f o (vv (i + 1))) := ⟨_, rfl⟩
        rw [← ea, ← ec] at p4 p5
        rw [← ea, ← ec]
        have c3 : c ≤ 3 := by
          rw [ec]; unfold rLb
          split
          · split <;> omega
          · omega
        obtain ⟨qb, vb⟩ := nbr_is (tb g2) hn rp'.1 (f := 3 - a) (by omega)
        refine Ends.eq (b550_131 lq1 (by omega)) (Ends.b3 (fun _ => ?_) (fun z => absurd z (by decide)))
        rw [show bop32 100 (3 : Int) (a : Int) = ((3 - a : Nat) : Int) from subNN (x := 3) (by omega) (by omega), show bop32 100 (3 : Int) (c : Int) = ((3 - c : Nat) : Int) from subNN (x := 3) (by omega) (by omega), vb]
        refine Ends.g qb ?_
        have cm := rp'.comes rp (x := 3 - a) (by omega)
        obtain ⟨back, eback⟩ : ∃ back, back = rvB (vv (i + 1)) := ⟨_, rfl⟩
        obtain ⟨out, eout⟩ : ∃ out, out = rvO (vv (i + 1)) := ⟨_, rfl⟩
        have hbo : cond (tst 1 (nbr n N' (3 - a)) (N : Int)) ((3 - c : Nat) : Int) ((3 - a : Nat) : Int) = ((back : Nat) : Int) ∧ cond (tst 1 ((back : Nat) : Int) ((3 - a : Nat) : Int)) ((3 - a : Nat) : Int) ((3 - c : Nat) : Int) = ((out : Nat) : Int) := by
          rw [ct1, ct1]
          by_cases z : rnE (vv (i + 1)) (3 - a) (vv i) = true
          · rw [if_pos z, Bool.and_eq_true, beq_iff_eq, beq_iff_eq] at p5
            rw [if_pos (cm.mpr z), eback, p5.1, if_pos rfl, eout, p5.2]
            exact ⟨rfl, rfl⟩
          · rw [if_neg z, Bool.and_eq_true, beq_iff_eq, beq_iff_eq] at p5
            rw [if_neg (fun y => z (cm.mp y)), eback, p5.1, if_neg (by omega), eout, p5.2]
            exact ⟨rfl, rfl⟩
        rw [hbo.1, hbo.2]
        clear hbo
        have b4 : back < 4 := by rw [eback]; exact rvB_lt
        have o4 : out < 4 := by rw [eout]; exact rvO_lt
        have n96 : ∀ x, x < 4 → (4 * N' + x) % 96 = 4 * rvT (vv (i + 1)) + x := fun x hx => by
          rw [K96, show (4 * N' + x) / 4 = N' by omega, show (4 * N' + x) % 4 = x by omega, rp'.2.1]
        have dk : dd = drT (4 * t + f) := by rw [ed, k96]
        have dir : ∀ x, x < 4 → (!(drT (4 * rvT (vv (i + 1)) + x) == drT (4 * t + f)) || rHit t f o (vv (i + 1)) x) = true → drT ((4 * N' + x) % 96) = dd → bsd n K sd = ((4 * N' + x : Nat) : Int) := fun x hx e z => by
          rw [n96 x hx, dk] at z
          rw [z, beq_self_eq_true, Bool.not_true, Bool.false_or] at e
          exact hits rp' hx e
        rw [← eback] at p6
        rw [← eout] at p7
        have hN' := rp'.1
        rw [show bop32 104 (4 : Int) (N' : Int) = ((4 * N' : Nat) : Int) from mulNN (x := 4) (by omega), addNN (by omega)]
        refine Ends.cv lq1 (by decide +kernel) (nt q1 (Hi i) (4 * N' + back) lq1 g2 st1 (by omega) (dir back b4 p6)) (fun q2 l2 _ _ _ ⟨g3, st2⟩ => ?_)
        refine Ends.eq (b550_252 l2 (by omega)) ?_
        rw [show bop32 104 (4 : Int) (N' : Int) = ((4 * N' : Nat) : Int) from mulNN (x := 4) (by omega), addNN (by omega)]
        refine Ends.cv l2 (by decide +kernel) (nt q2 _ (4 * N' + out) l2 g3 st2 (by omega) (dir out o4 p7)) (fun q3 l3 _ _ _ ⟨g4, st3⟩ => ?_)
        refine Ends.eq (b550_270 l3 (by omega)) ?_
        rw [eout]
        refine ih (i + 1) q3 N' _ _ _ _ (by omega) l3 g4 (st3.imp (fun z => ⟨z.1, fun hh => z.2 ?_⟩) id) rp'
        rw [eHi] at hh ⊢
        obtain ⟨j, j1, j2⟩ := hh
        by_cases y : j + 1 ≤ i
        · exact Or.inl (Or.inl ⟨j, y, j2⟩)
        · have : j = i := by omega
          subst this
          rcases j2 with j2 | j2
          · rw [← eback] at j2
            exact Or.inl (Or.inr (hits rp' b4 j2))
          · rw [← eout] at j2
            exact Or.inr (hits rp' o4 j2)
  -- the edge's ends
  have cor : ∀ (r j : Nat), j + r = 4 → (Ends (ev PP (gsF gv) B d 550 25 [(2, rf (B + 149)), (0, (s : Int)), (0, (K : Int)), (0, (o : Int)), (0, ((by' : Nat) : Int)), (0, nvI dd 0), (0, nvI dd 1), (0, nvI dd 2), (0, (G : Int)), (0, (f : Int)), (0, oneF NN (fun k => hcB f k && hcB o k) 4), (0, twoF NN (fun k => hcB f k && hcB o k) 4), (0, ((4 : Nat) : Int)), (9, 0), (9, 0), (9, 0), (9, 0), (9, 0)] [] h1) Q) → Ends (ev PP (gsF gv) B d 550 25 [(2, rf (B + 149)), (0, (s : Int)), (0, (K : Int)), (0, (o : Int)), (0, ((by' : Nat) : Int)), (0, nvI dd 0), (0, nvI dd 1), (0, nvI dd 2), (0, (G : Int)), (0, (f : Int)), (0, oneF NN (fun k => hcB f k && hcB o k) j), (0, twoF NN (fun k => hcB f k && hcB o k) j), (0, (j : Int)), (9, 0), (9, 0), (9, 0), (9, 0), (9, 0)] [] h1) Q := by
    intro r
    induction r with
    | zero =>
      intro j ej fin
      obtain rfl : j = 4 := by omega
      exact fin
    | succ r ih =>
      intro j ej fin
      have hj : j < 4 := by omega
      obtain ⟨qc, vc⟩ := v583_is (h := h1) hn hGn hj I1
      refine Ends.eq (b550_25 l1 (by omega)) (Ends.b3 (fun z => absurd z (by omega)) (fun _ => ?_))
      rw [v670_is f4 hj, v670_is ho hj, vc]
      have nj : NN j = ((cnrN n G j : Nat) : Int) := by rw [eNN]
      refine Ends.g ?_ ?_
      · cases hcB f j <;> cases hcB o j
        · trivial
        · trivial
        · trivial
        · show cond (tst 3 _ 0) (q583 B n h1 (j : Int)) (q583 B n h1 (j : Int))
          cases tst 3 (oneF NN (fun k => hcB f k && hcB o k) j) 0 <;> exact qc
      · have e1 : cond (tst 0 (if hcB f j = true then (1 : Int) else 0) 0) (oneF NN (fun k => hcB f k && hcB o k) j) (cond (tst 1 (if hcB o j = true then (1 : Int) else 0) 0) (cond (tst 3 (oneF NN (fun k => hcB f k && hcB o k) j) 0) (oneF NN (fun k => hcB f k && hcB o k) j) ((cnrN n G j : Nat) : Int)) (oneF NN (fun k => hcB f k && hcB o k) j)) = oneF NN (fun k => hcB f k && hcB o k) (j + 1) := by
          show _ = if (hcB f j && hcB o j) = true then (if oneF NN (fun k => hcB f k && hcB o k) j < 0 then NN j else oneF NN (fun k => hcB f k && hcB o k) j) else oneF NN (fun k => hcB f k && hcB o k) j
          rw [ct3, nj]
          cases hcB f j <;> cases hcB o j <;> rfl
        have e2 : cond (tst 0 (if hcB f j = true then (1 : Int) else 0) 0) (twoF NN (fun k => hcB f k && hcB o k) j) (cond (tst 1 (if hcB o j = true then (1 : Int) else 0) 0) (cond (tst 3 (oneF NN (fun k => hcB f k && hcB o k) j) 0) ((cnrN n G j : Nat) : Int) (twoF NN (fun k => hcB f k && hcB o k) j)) (twoF NN (fun k => hcB f k && hcB o k) j)) = twoF NN (fun k => hcB f k && hcB o k) (j + 1) := by
          show _ = if (hcB f j && hcB o j) = true then (if oneF NN (fun k => hcB f k && hcB o k) j < 0 then twoF NN (fun k => hcB f k && hcB o k) j else NN j) else twoF NN (fun k => hcB f k && hcB o k) j
          rw [ct3, nj]
          cases hcB f j <;> cases hcB o j <;> rfl
        rw [e1, e2, w_succ (by omega)]
        exact ih (j + 1) (by omega) fin
  have c0 := cor 4 0 rfl
  refine c0 ?_
  clear c0 cor
  refine Ends.eq (b550_25 l1 (by omega)) (Ends.b3 (fun _ => ?_) (fun z => absurd z (by decide)))
  rw [w1, w2]
  have lp := loop (L - 1) 0 h1 G (9, 0) (9, 0) (9, 0) (9, 0) (by omega) l1 G1 (Or.inl ⟨fl1, fun hh => by
    rw [eHi] at hh
    obtain ⟨j, j1, -⟩ := hh
    omega⟩) start
  rw [out0] at lp
  exact lp
end ARE
