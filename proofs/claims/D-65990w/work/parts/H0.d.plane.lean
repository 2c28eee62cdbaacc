/-! L3: faces (desk): plain law of a face being traced -/
section PLN
theorem cntN_inj {D : Nat → Bool} {f : Nat → Nat} {M N : Nat} (h1 : ∀ i, i < M → D i = true → f i < N) (h2 : ∀ i j, i < M → j < M → D i = true → D j = true → f i = f j → i = j) : cntN D M ≤ N := by
  have e := cnt_rel (r := fun i j => i < M ∧ D i = true ∧ f i = j) M D (fun j => @decide (∃ i, i < M ∧ D i = true ∧ f i = j) (Classical.propDecidable _)) N (fun i hi hd => ⟨f i, h1 i hi hd, @decide_eq_true _ (Classical.propDecidable _) ⟨i, hi, hd, rfl⟩, hi, hd, rfl⟩) (fun j hj ht => by
    obtain ⟨i, hi, hd, e⟩ := @of_decide_eq_true _ (Classical.propDecidable _) ht
    exact ⟨i, hi, hd, hi, hd, e⟩) (fun i j j' a b => a.2.2.symm.trans b.2.2) (fun i i' j a b => h2 i i' a.1 b.1 a.2.1 b.2.1 (a.2.2.trans b.2.2.symm))
  rw [e]
  exact cntN_le _ _
theorem cnt_tt : ∀ p, cntN (fun _ => true) p = p
  | 0 => rfl
  | p + 1 => by rw [cntN_s, cnt_tt p]; rfl
/-- old cells outside W as they were -/
def ExG (W : Nat → Nat → Prop) (h t : AH) : Prop := (∀ a, a < hnx h → hk t a = hk h a) ∧ (∀ a k, a < hnx h → ¬ W a k → hv t a k = hv h a k) ∧ hnx h ≤ hnx t ∧ hus h ≤ hus t
section EXG
variable {W W' : Nat → Nat → Prop} {h t u : AH} {c s : Nat}
theorem Ext.exg (g : Ext W c s h t) : ExG W h t := ⟨g.1, g.2.1, g.2.2.1, g.2.2.2.2.1⟩
theorem ExG.rf : ExG W h h := ⟨fun _ _ => rfl, fun _ _ _ _ => rfl, Nat.le_refl _, Nat.le_refl _⟩
theorem ExG.tr (g : ExG W h t) (g' : ExG W' t u) (hs : ∀ a k, a < hnx h → W' a k → W a k) : ExG W h u :=
  ⟨fun a ha => by rw [g'.1 a (Nat.lt_of_lt_of_le ha g.2.2.1), g.1 a ha], fun a k ha w => by rw [g'.2.1 a k (Nat.lt_of_lt_of_le ha g.2.2.1) (fun z => w (hs a k ha z)), g.2.1 a k ha w], Nat.le_trans g.2.2.1 g'.2.2.1, Nat.le_trans g.2.2.2 g'.2.2.2⟩
theorem ExG.sub (g : ExG W h t) (hs : ∀ a k, a < hnx h → W a k → W' a k) : ExG W' h t := ⟨g.1, fun a k ha w => g.2.1 a k ha (fun z => w (hs a k ha z)), g.2.2⟩
theorem ExG.ext (g : ExG W h t) (hc : hnx t ≤ hnx h + c) (hz : hus t ≤ hus h + s) : Ext W c s h t := ⟨g.1, g.2.1, g.2.2.1, hc, g.2.2.2, hz⟩
theorem ExG.at (g : ExG W h t) {a : Nat} (k : Nat) (ha : a < hnx h) (w : ¬ W a k) : hv t a k = hv h a k := g.2.1 a k ha w
theorem ExG.hk (g : ExG W h t) {a : Nat} (ha : a < hnx h) : Jvm.Pilot.CPartDesignerLaw_law_r7324_a227e6.hk t a = Jvm.Pilot.CPartDesignerLaw_law_r7324_a227e6.hk h a := g.1 a ha
end EXG
variable {n K s : Nat}
theorem bsd_dec (hs : s < 3) {y : Nat} (e : bsd n K s = (y : Int)) : y < 4 * gN n ∧ y % 96 = bsT (K % 96) s ∧ ((gX n (y / 4) : Nat) : Int) = bsX n K s ∧ ((gY n (y / 4) : Nat) : Int) = bsY n K s ∧ ((gZ n (y / 4) : Nat) : Int) = bsZ n K s := by
  rcases bsd_cases (n := n) (K := K) hs with z | ⟨x', y', z', h1, h2, h3, e1, e2, e3, -, h4⟩
  · omega
  · have b1 := (bs_lt (K96_lt (K := K)) hs).1
    obtain ⟨j, ej⟩ : ∃ j, j = bsT (K % 96) s := ⟨_, rfl⟩
    rw [← ej] at b1 h4 ⊢
    have ey : y = 4 * gI n x' y' z' (j / 4) + j % 4 := by omega
    have hj : j / 4 < 24 := by omega
    have y4 : y / 4 = gI n x' y' z' (j / 4) := by omega
    refine ⟨bsd_lt hs e, ?_, ?_, ?_, ?_⟩
    · rw [K96, y4, gSo_I hj]; omega
    · rw [y4, gX_I h1 hj, e1]
    · rw [y4, gY_I h1 h2 hj, e2]
    · rw [y4, gZ_I h1 h2 hj, e3]
/-- which plane a facet lies in (twice its OFFSET) -/
def of2 (n K : Nat) : Int := nvI (drT (K % 96)) 0 * (2 * (gX n (K / 4) : Int) + (fcC (K % 96) 0 : Int)) + nvI (drT (K % 96)) 1 * (2 * (gY n (K / 4) : Int) + (fcC (K % 96) 1 : Int)) + nvI (drT (K % 96)) 2 * (2 * (gZ n (K / 4) : Int) + (fcC (K % 96) 2 : Int))
theorem of2_bs (hs : s < 3) {y : Nat} (e : bsd n K s = (y : Int)) : drT (y % 96) = drT (K % 96) ∧ of2 n y = of2 n K := by
  obtain ⟨-, e0, e1, e2, e3⟩ := bsd_dec hs e
  obtain ⟨b1, b2, b3⟩ := bs_lt (K96_lt (K := K)) hs
  obtain ⟨c1, c2, c3, c4⟩ := cuT_is (K96_lt (K := K)) hs
  have mt := (mt_is (K96_lt (K := K)) hs c1 b1 b3).mpr ⟨rfl, rfl⟩
  unfold mtB at mt
  rw [Bool.and_eq_true, Bool.and_eq_true, Bool.and_eq_true, decide_eq_true_eq] at mt
  have pl := mt.2.2.2
  refine ⟨by rw [e0, b3], ?_⟩
  unfold plV plM at pl
  rw [c2, c3, c4] at pl
  unfold of2
  rw [e1, e2, e3, e0, b3]
  unfold bsX bsY bsZ
  generalize nvI (drT (K % 96)) 0 = N0 at *
  generalize nvI (drT (K % 96)) 1 = N1 at *
  generalize nvI (drT (K % 96)) 2 = N2 at *
  grind
theorem FRe.pl {E : Nat → Bool} {a b : Nat} (r : FRe n E a b) : drT (b % 96) = drT (a % 96) ∧ of2 n b = of2 n a := r (fun b => drT (b % 96) = drT (a % 96) ∧ of2 n b = of2 n a) ⟨rfl, rfl⟩ (fun x y s _ _ hs p e _ => by
  obtain ⟨q1, q2⟩ := of2_bs hs e
  exact ⟨q1.trans p.1, q2.trans p.2⟩)
/-- its number in the plane -/
def dix (k : Nat) : Nat := cntN (fun j => drT j == drT k) k
def plU (d x y : Nat) : Nat := if d / 9 = 1 then x else y
def plN (n K : Nat) : Nat := (dix (K % 96) * n + (if drT (K % 96) / 9 = 1 then gX n (K / 4) else gY n (K / 4))) * n + (if drT (K % 96) / 9 = 1 ∧ drT (K % 96) / 3 % 3 = 1 then gY n (K / 4) else gZ n (K / 4))
set_option maxRecDepth 100000 in
theorem dix_all : alB 96 (fun k => Nat.blt (dix k) 6 && !(drT k == 13) && Nat.blt (drT k) 27 && alB 96 (fun m => !(drT k == drT m) || (!(dix k == dix m) || (k == m)))) = true := by decide +kernel
theorem dix_is {k : Nat} (hk : k < 96) : dix k < 6 ∧ drT k ≠ 13 ∧ drT k < 27 ∧ ∀ m, m < 96 → drT k = drT m → dix k = dix m → k = m := by
  have := alB_t dix_all k hk
  rw [Bool.and_eq_true, Bool.and_eq_true, Bool.and_eq_true, Bool.not_eq_true', beq_eq_false_iff_ne] at this
  refine ⟨blt_lt this.1.1.1, this.1.1.2, blt_lt this.1.2, fun m hm e1 e2 => ?_⟩
  have w := alB_t this.2 m hm
  rw [e1, e2, beq_self_eq_true, beq_self_eq_true, Bool.not_true, Bool.false_or, Bool.false_or, beq_iff_eq] at w
  exact w
theorem plN_lt (hK : K < 4 * gN n) : plN n K < 6 * n * n := by
  obtain ⟨-, k1, k2, k3, k4⟩ := g_lt (n := n) (g := K / 4) (by omega)
  have d6 := (dix_is (K96_lt (K := K))).1
  unfold plN
  have a1 : (if drT (K % 96) / 9 = 1 then gX n (K / 4) else gY n (K / 4)) < n := by split <;> assumption
  have a2 : (if drT (K % 96) / 9 = 1 ∧ drT (K % 96) / 3 % 3 = 1 then gY n (K / 4) else gZ n (K / 4)) < n := by split <;> assumption
  generalize (if drT (K % 96) / 9 = 1 then gX n (K / 4) else gY n (K / 4)) = u at *
  generalize (if drT (K % 96) / 9 = 1 ∧ drT (K % 96) / 3 % 3 = 1 then gY n (K / 4) else gZ n (K / 4)) = v at *
  generalize dix (K % 96) = i at *
  have b1 : (i + 1) * n ≤ 6 * n := Nat.mul_le_mul_right n d6
  rw [Nat.succ_mul] at b1
  have b2 : (i * n + u + 1) * n ≤ 6 * n * n := Nat.mul_le_mul_right n (by omega)
  rw [Nat.succ_mul] at b2
  omega
theorem plN_inj {K' : Nat} (hK : K < 4 * gN n) (hK' : K' < 4 * gN n) (e1 : drT (K % 96) = drT (K' % 96)) (e2 : of2 n K = of2 n K') (e3 : plN n K = plN n K') : K = K' := by
  obtain ⟨-, k1, k2, k3, k4⟩ := g_lt (n := n) (g := K / 4) (by omega)
  obtain ⟨-, j1, j2, j3, j4⟩ := g_lt (n := n) (g := K' / 4) (by omega)
  obtain ⟨-, n13, n27, di⟩ := dix_is (K96_lt (K := K))
  unfold plN at e3
  rw [← e1] at e3
  have a1 : (if drT (K % 96) / 9 = 1 then gX n (K / 4) else gY n (K / 4)) < n := by split <;> assumption
  have a2 : (if drT (K % 96) / 9 = 1 ∧ drT (K % 96) / 3 % 3 = 1 then gY n (K / 4) else gZ n (K / 4)) < n := by split <;> assumption
  have b1 : (if drT (K % 96) / 9 = 1 then gX n (K' / 4) else gY n (K' / 4)) < n := by split <;> assumption
  have b2 : (if drT (K % 96) / 9 = 1 ∧ drT (K % 96) / 3 % 3 = 1 then gY n (K' / 4) else gZ n (K' / 4)) < n := by split <;> assumption
  obtain ⟨q1, q2, q3⟩ := (rw3_inj (n := n) (t := dix (K % 96)) (t' := dix (K' % 96)) a1 a2 b1 b2).mp e3
  have ek := di _ (K96_lt (K := K')) e1 q1
  have eg : gX n (K / 4) = gX n (K' / 4) ∧ gY n (K / 4) = gY n (K' / 4) ∧ gZ n (K / 4) = gZ n (K' / 4) := by
    unfold of2 at e2
    rw [← ek] at e2
    clear di a1 a2 b1 b2 e3
    generalize (fcC (K % 96) 0 : Int) = c0 at *
    generalize (fcC (K % 96) 1 : Int) = c1 at *
    generalize (fcC (K % 96) 2 : Int) = c2 at *
    have v0 : nvI (drT (K % 96)) 0 = ((drT (K % 96) / 9 : Nat) : Int) - 1 := rfl
    have v1 : nvI (drT (K % 96)) 1 = ((drT (K % 96) / 3 % 3 : Nat) : Int) - 1 := rfl
    have v2 : nvI (drT (K % 96)) 2 = ((drT (K % 96) % 3 : Nat) : Int) - 1 := rfl
    rw [v0, v1, v2] at e2
    clear v0 v1 v2
    generalize drT (K % 96) = dd at *
    by_cases w0 : dd / 9 = 1
    · rw [if_pos w0, if_pos w0] at q2
      rw [w0] at e2
      by_cases w1 : dd / 3 % 3 = 1
      · rw [if_pos ⟨w0, w1⟩, if_pos ⟨w0, w1⟩] at q3
        rw [w1] at e2
        have w2 : dd % 3 = 0 ∨ dd % 3 = 2 := by omega
        rcases w2 with w2 | w2 <;> rw [w2] at e2 <;> exact ⟨q2, q3, by omega⟩
      · rw [if_neg (fun z => w1 z.2), if_neg (fun z => w1 z.2)] at q3
        have w2 : dd / 3 % 3 = 0 ∨ dd / 3 % 3 = 2 := by omega
        rw [← q3] at e2
        rcases w2 with w2 | w2 <;> rw [w2] at e2 <;> exact ⟨q2, by omega, q3⟩
    · rw [if_neg w0, if_neg w0] at q2
      rw [if_neg (fun z => w0 z.1), if_neg (fun z => w0 z.1)] at q3
      have w2 : dd / 9 = 0 ∨ dd / 9 = 2 := by omega
      rw [← q2, ← q3] at e2
      rcases w2 with w2 | w2 <;> rw [w2] at e2 <;> exact ⟨by omega, q2, q3⟩
  have et : gSo (K / 4) = gSo (K' / 4) := by
    have u1 := K96 (K := K)
    have u2 := K96 (K := K')
    omega
  have : K / 4 = K' / 4 := by rw [← gI_g (n := n) (g := K / 4), ← gI_g (n := n) (g := K' / 4), eg.1, eg.2.1, eg.2.2, et]
  have u1 := K96 (K := K)
  have u2 := K96 (K := K')
  omega
/-- facets of one plane, all different: few -/
theorem pl_few {p : Nat} {st : Nat → Nat} {K0 : Nat} {E : Nat → Bool} (h1 : ∀ i, i < p → st i < 4 * gN n ∧ FRe n E K0 (st i)) (h2 : ∀ i j, i < p → j < p → st i = st j → i = j) : p ≤ 6 * n * n := by
  have := cntN_inj (D := fun _ => true) (f := fun i => plN n (st i)) (M := p) (N := 6 * n * n) (fun i hi _ => plN_lt (h1 i hi).1) (fun i j hi hj _ _ e => h2 i j hi hj (by
    have a := (h1 i hi).2.pl
    have b := (h1 j hj).2.pl
    exact plN_inj (h1 i hi).1 (h1 j hj).1 (a.1.trans b.1.symm) (a.2.trans b.2.symm) e))
  rw [cnt_tt] at this
  exact this
/-- is a facet on the pile -/
def inPl (st : Nat → Nat) : Nat → Nat → Bool
  | 0, _ => false
  | p + 1, k => (st p == k) || inPl st p k
theorem inP_iff {st : Nat → Nat} {k : Nat} : ∀ {p : Nat}, inPl st p k = true ↔ ∃ i, i < p ∧ st i = k
  | 0 => ⟨fun z => absurd z (by simp [inPl]), fun ⟨i, hi, _⟩ => absurd hi (Nat.not_lt_zero i)⟩
  | p + 1 => by
    unfold inPl
    rw [Bool.or_eq_true, beq_iff_eq, inP_iff (p := p)]
    constructor
    · rintro (z | ⟨i, h1, h2⟩)
      · exact ⟨p, by omega, z⟩
      · exact ⟨i, by omega, h2⟩
    · rintro ⟨i, h1, h2⟩
      rcases (by omega : i = p ∨ i < p) with z | z
      · rw [z] at h2; exact Or.inl h2
      · exact Or.inr ⟨i, z, h2⟩
theorem inP_upd {st : Nat → Nat} {p y k : Nat} : inPl (fun i => if i = p then y else st i) (p + 1) k = ((y == k) || inPl st p k) := by
  rw [Bool.eq_iff_iff, inP_iff, Bool.or_eq_true, beq_iff_eq, inP_iff]
  constructor
  · rintro ⟨i, h1, h2⟩
    by_cases z : i = p
    · rw [if_pos z] at h2; exact Or.inl h2
    · rw [if_neg z] at h2; exact Or.inr ⟨i, by omega, h2⟩
  · rintro (z | ⟨i, h1, h2⟩)
    · exact ⟨p, by omega, by rw [if_pos rfl]; exact z⟩
    · exact ⟨i, by omega, by rw [if_neg (by omega)]; exact h2⟩
/-- a face is being traced: V is done, p facets are on the pile; X: what isn't looked at yet -/
def TrS (n : Nat) (E : Nat → Bool) (K0 : Nat) (V : Nat → Bool) (p : Nat) (st : Nat → Nat) (X : Nat → Nat → Prop) : Prop :=
  (∀ i, i < p → st i < 4 * gN n ∧ E (st i) = true ∧ FRe n E K0 (st i) ∧ V (st i) = false) ∧ (∀ i j, i < p → j < p → st i = st j → i = j) ∧ (∀ k, V k = true → k < 4 * gN n ∧ E k = true ∧ FRe n E K0 k) ∧
  (∀ k y s, k < 4 * gN n → y < 4 * gN n → s < 3 → V k = true → ¬ X k s → bsd n k s = (y : Int) → E y = true → V y = true ∨ inPl st p y = true) ∧ (V K0 = true ∨ inPl st p K0 = true)
/-- what is left of the edges -/
def eNw (E V : Nat → Bool) (p : Nat) (st : Nat → Nat) (k : Nat) : Bool := E k && (!V k && !inPl st p k)
variable {E V : Nat → Bool} {K0 p : Nat} {st : Nat → Nat}
theorem TrS.ini (hK : K0 < 4 * gN n) (hE : E K0 = true) : TrS n E K0 (fun _ => false) 1 (fun _ => K0) (fun _ _ => False) :=
  ⟨fun i _ => ⟨hK, hE, FRe.rf, rfl⟩, fun i j hi hj _ => by omega, fun k z => absurd z Bool.false_ne_true, fun k y s _ _ _ z => absurd z Bool.false_ne_true, Or.inr (inP_iff.mpr ⟨0, by decide, rfl⟩)⟩
theorem TrS.pop (T : TrS n E K0 V (p + 1) st (fun _ _ => False)) : TrS n E K0 (fun k => V k || decide (k = st p)) p st (fun k _ => k = st p) := by
  obtain ⟨t1, t2, t3, t4, t5⟩ := T
  refine ⟨fun i hi => ?_, fun i j hi hj => t2 i j (by omega) (by omega), fun k hk => ?_, fun k y s hk hy hs hv nx e hE => ?_, ?_⟩
  · obtain ⟨a1, a2, a3, a4⟩ := t1 i (by omega)
    refine ⟨a1, a2, a3, ?_⟩
    show (V (st i) || decide (st i = st p)) = false
    rw [a4, Bool.false_or, decide_eq_false_iff_not]
    intro z
    have := t2 i p (by omega) (by omega) z
    omega
  · rw [Bool.or_eq_true, decide_eq_true_eq] at hk
    rcases hk with z | z
    · exact t3 k z
    · obtain ⟨a1, a2, a3, -⟩ := t1 p (by omega)
      rw [z]; exact ⟨a1, a2, a3⟩
  · rw [Bool.or_eq_true, decide_eq_true_eq] at hv
    rcases hv with z | z
    · rcases t4 k y s hk hy hs z (fun q => q) e hE with w | w
      · exact Or.inl (by show (V y || _) = true; rw [w]; rfl)
      · obtain ⟨i, w1, w2⟩ := inP_iff.mp w
        rcases (by omega : i = p ∨ i < p) with q | q
        · refine Or.inl ?_
          show (V y || decide (y = st p)) = true
          rw [← w2, q, decide_eq_true rfl, Bool.or_true]
        · exact Or.inr (inP_iff.mpr ⟨i, q, w2⟩)
    · exact absurd z nx
  · rcases t5 with w | w
    · exact Or.inl (by show (V K0 || _) = true; rw [w]; rfl)
    · obtain ⟨i, w1, w2⟩ := inP_iff.mp w
      rcases (by omega : i = p ∨ i < p) with q | q
      · refine Or.inl ?_
        show (V K0 || decide (K0 = st p)) = true
        rw [← w2, q, decide_eq_true rfl, Bool.or_true]
      · exact Or.inr (inP_iff.mpr ⟨i, q, w2⟩)
theorem eNw_pop (T : TrS n E K0 V (p + 1) st (fun _ _ => False)) (k : Nat) : eNw E V (p + 1) st k = eNw E (fun k => V k || decide (k = st p)) p st k := by
  unfold eNw
  show (E k && (!V k && !((st p == k) || inPl st p k))) = (E k && (!(V k || decide (k = st p)) && !inPl st p k))
  have : decide (k = st p) = (st p == k) := by rw [Bool.eq_iff_iff, decide_eq_true_eq, beq_iff_eq]; exact eq_comm
  rw [this]
  cases E k <;> cases V k <;> cases (st p == k) <;> cases inPl st p k <;> rfl
variable {c : Nat}
/-- nothing new at a side -/
theorem TrS.non (T : TrS n E K0 V p st (fun k s' => k = c ∧ s ≤ s')) (h : ∀ y, y < 4 * gN n → bsd n c s = (y : Int) → eNw E V p st y = false) : TrS n E K0 V p st (fun k s' => k = c ∧ s + 1 ≤ s') := by
  obtain ⟨t1, t2, t3, t4, t5⟩ := T
  refine ⟨t1, t2, t3, fun k y s' hk hy hs hv nx e hE => ?_, t5⟩
  by_cases z : k = c ∧ s' = s
  · obtain ⟨rfl, rfl⟩ := z
    have := h y hy e
    unfold eNw at this
    rw [hE, Bool.true_and, Bool.and_eq_false_iff, Bool.not_eq_false', Bool.not_eq_false'] at this
    exact this
  · exact t4 k y s' hk hy hs hv (fun w => nx ⟨w.1, by omega⟩) e hE
/-- a new one at a side -/
theorem TrS.push {y : Nat} (T : TrS n E K0 V p st (fun k s' => k = c ∧ s ≤ s')) (hs : s < 3) (hc : V c = true) (e : bsd n c s = (y : Int)) (hy : eNw E V p st y = true) : TrS n E K0 V (p + 1) (fun i => if i = p then y else st i) (fun k s' => k = c ∧ s + 1 ≤ s') ∧ p + 1 ≤ 6 * n * n := by
  obtain ⟨t1, t2, t3, t4, t5⟩ := T
  unfold eNw at hy
  rw [Bool.and_eq_true, Bool.and_eq_true, Bool.not_eq_true', Bool.not_eq_true'] at hy
  obtain ⟨y1, y2, y3⟩ := hy
  obtain ⟨c1, c2, c3⟩ := t3 c hc
  have yl := bsd_lt hs e
  have yr := c3.st c1 yl hs e y1
  have ny : ∀ i, i < p → st i ≠ y := fun i hi z => by
    rw [inP_iff.mpr ⟨i, hi, z⟩] at y3; exact absurd y3 (by decide)
  have u1 : ∀ i, i < p + 1 → (if i = p then y else st i) < 4 * gN n ∧ E (if i = p then y else st i) = true ∧ FRe n E K0 (if i = p then y else st i) ∧ V (if i = p then y else st i) = false := fun i hi => by
    by_cases z : i = p
    · rw [if_pos z]; exact ⟨yl, y1, yr, y2⟩
    · rw [if_neg z]; exact t1 i (by omega)
  have u2 : ∀ i j, i < p + 1 → j < p + 1 → (if i = p then y else st i) = (if j = p then y else st j) → i = j := fun i j hi hj z => by
    by_cases z1 : i = p <;> by_cases z2 : j = p
    · omega
    · rw [if_pos z1, if_neg z2] at z; exact absurd z.symm (ny j (by omega))
    · rw [if_neg z1, if_pos z2] at z; exact absurd z (ny i (by omega))
    · rw [if_neg z1, if_neg z2] at z; exact t2 i j (by omega) (by omega) z
  refine ⟨⟨u1, u2, t3, fun k y' s' hk hy' hs' hv nx e' hE => ?_, ?_⟩, pl_few (E := E) (K0 := K0) (fun i hi => ⟨(u1 i hi).1, (u1 i hi).2.2.1⟩) u2⟩
  · rw [inP_upd, Bool.or_eq_true, beq_iff_eq]
    by_cases z : k = c ∧ s' = s
    · obtain ⟨rfl, rfl⟩ := z
      rw [e] at e'
      exact Or.inr (Or.inl (by omega))
    · rcases t4 k y' s' hk hy' hs' hv (fun w => nx ⟨w.1, by omega⟩) e' hE with w | w
      · exact Or.inl w
      · exact Or.inr (Or.inr w)
  · rw [inP_upd, Bool.or_eq_true]
    rcases t5 with w | w
    · exact Or.inl w
    · exact Or.inr (Or.inr w)
theorem eNw_push {y : Nat} (k : Nat) : eNw E V (p + 1) (fun i => if i = p then y else st i) k = (eNw E V p st k && !decide (k = y)) := by
  unfold eNw
  rw [inP_upd]
  have : decide (k = y) = (y == k) := by rw [Bool.eq_iff_iff, decide_eq_true_eq, beq_iff_eq]; exact eq_comm
  rw [this]
  cases E k <;> cases V k <;> cases (y == k) <;> cases inPl st p k <;> rfl
theorem TrS.sides (T : TrS n E K0 V p st (fun k s' => k = c ∧ 3 ≤ s')) : TrS n E K0 V p st (fun _ _ => False) := ⟨T.1, T.2.1, T.2.2.1, fun k y s' hk hy hs hv _ e hE => T.2.2.2.1 k y s' hk hy hs hv (fun z => by omega) e hE, T.2.2.2.2⟩
theorem TrS.side0 (T : TrS n E K0 V p st (fun k _ => k = c)) : TrS n E K0 V p st (fun k s' => k = c ∧ 0 ≤ s') := ⟨T.1, T.2.1, T.2.2.1, fun k y s' hk hy hs hv nx e hE => T.2.2.2.1 k y s' hk hy hs hv (fun z => nx ⟨z, Nat.zero_le _⟩) e hE, T.2.2.2.2⟩
/-- the face is done -/
theorem TrS.fin (T : TrS n E K0 V 0 st (fun _ _ => False)) (k : Nat) (hk : k < 4 * gN n) : V k = true ↔ FRe n E K0 k := by
  obtain ⟨t1, t2, t3, t4, t5⟩ := T
  refine ⟨fun z => (t3 k z).2.2, fun r => ?_⟩
  have k0 : V K0 = true := by
    rcases t5 with w | w
    · exact w
    · exact absurd w (by simp [inPl])
  exact r (fun k => V k = true) k0 (fun x y s hx hy hs p e hE => by
    rcases t4 x y s hx hy hs p (fun q => q) e hE with w | w
    · exact w
    · exact absurd w (by simp [inPl]))
end PLN
