/-! L3: sketches solved (model) -/
section FRQ
theorem mN_mul {a b k : Int} (hb : b ≠ 0) (hk : k ≠ 0) : mN (a * k) (b * k) = mN a b ∧ mD (a * k) (b * k) = mD a b := by
  obtain ⟨g1, g2, g3⟩ := gcd_pos (a := a) hb
  have eg : (Int.gcd (a * k) (b * k) : Int) = (Int.gcd a b : Int) * (k.natAbs : Int) := by rw [Int.gcd_mul_right, Int.natCast_mul]
  have kn : (0 : Int) < (k.natAbs : Int) := by omega
  have dv : ∀ x : Int, (x * (k.natAbs : Int)) / ((Int.gcd a b : Int) * (k.natAbs : Int)) = x / (Int.gcd a b : Int) := fun x => Int.mul_ediv_mul_of_pos_left x _ kn
  have sg : ∀ x : Int, (if b * k < 0 then -(x * k) else x * k) = (if b < 0 then -x else x) * (k.natAbs : Int) := fun x => by
    rcases Int.lt_or_gt_of_ne hk with s | s
    · have e : (k.natAbs : Int) = -k := by omega
      rcases Int.lt_or_gt_of_ne hb with s2 | s2
      · have : 0 < b * k := Int.mul_pos_of_neg_of_neg s2 s
        rw [if_neg (by omega), if_pos s2, e, Int.neg_mul_neg]
      · have : b * k < 0 := Int.mul_neg_of_pos_of_neg s2 s
        rw [if_pos this, if_neg (by omega), e, Int.mul_neg]
    · have e : (k.natAbs : Int) = k := by omega
      rcases Int.lt_or_gt_of_ne hb with s2 | s2
      · have : b * k < 0 := Int.mul_neg_of_neg_of_pos s2 s
        rw [if_pos this, if_pos s2, e, Int.neg_mul]
      · have : 0 < b * k := Int.mul_pos s2 s
        rw [if_neg (by omega), if_neg (by omega), e]
  unfold mN mD
  rw [eg, sg a, sg b, dv, dv]
  exact ⟨rfl, rfl⟩
/-- the same number, the same fraction -/
theorem frq_uniq {a b c e : Int} (hb : b ≠ 0) (he : e ≠ 0) (h : a * e = c * b) : mN a b = mN c e ∧ mD a b = mD c e := by
  obtain ⟨p1, p2⟩ := mN_mul (a := a) hb he
  obtain ⟨q1, q2⟩ := mN_mul (a := c) he hb
  rw [← p1, ← p2, ← q1, ← q2, h, Int.mul_comm b e]
  exact ⟨rfl, rfl⟩
theorem mN_one {a s : Int} (hs : s ≠ 0) : mN (a * s) s = a ∧ mD (a * s) s = 1 := by
  obtain ⟨p1, p2⟩ := mN_mul (a := a) (b := 1) (by decide) hs
  rw [Int.one_mul] at p1 p2
  rw [p1, p2]
  unfold mN mD
  rw [Int.gcd_one, if_neg (by decide), if_neg (by decide)]
  exact ⟨Int.ediv_one _, rfl⟩
end FRQ
/-- the first of them -/
def fstB (p : Nat → Bool) : Nat → Nat → Int
  | 0, _ => -1
  | r + 1, i => if p i = true then (i : Int) else fstB p r (i + 1)
theorem fstB_neg {p : Nat → Bool} : ∀ r i, fstB p r i < 0 → ∀ k, i ≤ k → k < i + r → p k = false
  | 0, i, _, k, h1, h2 => by omega
  | r + 1, i, h, k, h1, h2 => by
    unfold fstB at h
    by_cases z : p i = true
    · rw [if_pos z] at h; omega
    · rw [if_neg z] at h
      by_cases e : k = i
      · rw [e]; simpa using z
      · exact fstB_neg r (i + 1) h k (by omega) (by omega)
theorem fstB_none {p : Nat → Bool} : ∀ r i, (∀ k, i ≤ k → k < i + r → p k = false) → fstB p r i = -1
  | 0, _, _ => rfl
  | r + 1, i, h => by
    unfold fstB
    rw [if_neg (by rw [h i (Nat.le_refl i) (by omega)]; exact Bool.false_ne_true)]
    exact fstB_none r (i + 1) (fun k a b => h k (by omega) (by omega))
noncomputable def freB (E : (Nat → Int) → Int → Prop) (k : Nat) : Bool := @decide (Fre E k) (Classical.propDecidable _)
theorem freB_iff {E : (Nat → Int) → Int → Prop} {k : Nat} : freB E k = true ↔ Fre E k := by unfold freB; exact @decide_eq_true_iff _ (Classical.propDecidable _)
section SOLVED
variable {gv : Nat → Int} {B n d w1 nk np : Nat} {h : AH} {cs : Nat → Cst} {xa xb xc w : Nat → Int} {isC gk sel : Nat → Bool} {Inv : AH → Prop} {dr : Nat → Int}
/-- what the formulas of constraints give, if anything -/
def GvF (gv : Nat → Int) (B n w1 nk : Nat) (h0 : AH) (cs : Nat → Cst) (w : Nat → Int) (isC gk : Nat → Bool) (Inv : AH → Prop) : Prop := ∀ (k d' : Nat) (q : AH), k < nk → isC k = true → (cs k).1 ≤ 5 → LX B n q → 982 ≤ d' → Inv q → (-200 ≤ w k ∧ w k ≤ 200) ∧ Vt 0 (cll PP (ev PP (gsF gv) B) d' 655 [(2, rf (B + 149)), (2, hv h0 (w1 + 13) k)] q) (fun v q' => Agr (wvW B) q q' ∧ Inv q' ∧ v = if gk k = true then w k else 100000)
/-- a constraint that tells no number -/
def flC (cs : Nat → Cst) (isC gk : Nat → Bool) (k : Nat) : Bool := isC k && decide ((cs k).1 ≤ 5) && !gk k
theorem GvF.c (H : GvF gv B n w1 nk h cs w isC gk Inv) (hs : ∀ k, k < nk → sel k = true → isC k = true) (hf : ∀ k, k < nk → flC cs isC gk k = false) : GvC gv B n w1 nk h cs w sel Inv := by
  intro k d' q hk0 hs0 h5 lq hd' i
  have hc := hs k hk0 hs0
  obtain ⟨a, b⟩ := H k d' q hk0 hc h5 lq hd' i
  have g : gk k = true := by
    have := hf k hk0
    unfold flC at this
    rw [hc, decide_eq_true h5] at this
    simpa using this
  rw [if_pos g] at b
  exact ⟨a, b⟩
theorem c_firstFaulty637 {h0 : AH} (l : LX B n h) (hd : 985 ≤ d) (S : YS B w1 h) (C : CsM B h w1 nk cs xa xb xc) (hc : ∀ k, k < nk → hv h (w1 + 12) k = b2i (isC k)) (hInv : ∀ q q', Inv q → Agr (skW B) q q' → Inv q') (i0 : Inv h) (HG : GvF gv B n w1 nk h0 cs w isC gk Inv) (e13 : ∀ k, hv h (w1 + 13) k = hv h0 (w1 + 13) k) :
    Vt 0 (cll PP (ev PP (gsF gv) B) d 637 [(2, rf (B + 149)), (2, rf w1)] h) (fun x h' => Agr (wvW B) h h' ∧ Inv h' ∧ x = fstB (flC cs isC gk) nk 0) := by
  have lo := S.lo
  refine Vt.inq (D := 984) hd (Nat.le_of_ble_eq_true rfl) rfl (fun d hd Q K => ?_)
  have loop : ∀ (r k : Nat) (q : AH), k + r = nk → LX B n q → Agr (wvW B) h q → Inv q → fstB (flC cs isC gk) nk 0 = fstB (flC cs isC gk) r k → Ends (ev PP (gsF gv) B d 637 2 [(2, rf (B + 149)), (2, rf w1), (0, (k : Int))] [] q) Q := by
    intro r
    induction r with
    | zero =>
      intro k q ek lq g i e
      have Cq := C.agr S (g.sub (fun _ _ z => Or.inr z))
      refine Ends.eq (b637_2 lq (by omega) (ys_ho S (g.sub (fun _ _ z => Or.inr z)))) ?_
      rw [Cq.1]
      exact Ends.b3 (fun _ => Ends.sm (K _ _ ⟨g, i, by rw [e]; rfl⟩)) (fun z => absurd z (by omega))
    | succ r ih =>
      intro k q ek lq g i e
      have G := g.sub (W' := hlW B) (fun _ _ z => Or.inr z)
      have Cq := C.agr S G
      have nk32 := Cq.2.1
      obtain ⟨b1, b2, -, -, -, -⟩ := Cq.2.2 k (by omega)
      have at_ : ∀ j k, hv q (w1 + j) k = hv h (w1 + j) k := fun j k => g.at _ _ (fun z => by have := wv_lo z; omega)
      have next : ∀ (q' : AH), LX B n q' → Agr (wvW B) h q' → Inv q' → flC cs isC gk k = false → Ends (ev PP (gsF gv) B d 637 47 [(2, rf (B + 149)), (2, rf w1), (0, (k : Int))] [] q') Q := fun q' l' g' i' ef => by
        refine Ends.eq (b637_47 l' (by omega)) ?_
        rw [w_succ (by omega)]
        refine ih (k + 1) q' (by omega) l' g' i' ?_
        rw [e]
        show (if flC cs isC gk k = true then (k : Int) else _) = _
        rw [if_neg (by rw [ef]; exact Bool.false_ne_true)]
      refine Ends.eq (b637_2 lq (by omega) (ys_ho S G)) ?_
      rw [Cq.1, tn, at_ 12, hc k (by omega), b1, at_ 13, e13]
      refine Ends.b3 (fun z => absurd z (by omega)) (fun _ => Ends.g ⟨by omega, by omega⟩ (Ends.b0 (fun z => ?_) (fun z => Ends.b4 (fun z2 => ?_) (fun z2 => ?_))))
      · refine next q lq g i ?_
        unfold flC
        cases e2 : isC k
        · rfl
        · rw [e2] at z; exact absurd z (by decide)
      · refine next q lq g i ?_
        unfold flC
        rw [decide_eq_false (show ¬ (cs k).1 ≤ 5 by omega), Bool.and_false]; rfl
      · have hk1 : isC k = true := by
          cases e2 : isC k
          · rw [e2] at z; exact absurd rfl z
          · rfl
        have h5 : (cs k).1 ≤ 5 := by omega
        obtain ⟨wb, V⟩ := HG k d q (by omega) hk1 h5 lq (by omega) i
        refine Ends.ct lq (by decide +kernel) (by decide) V (fun x q2 l2 _ _ _ ⟨g2, i2, ex⟩ => ?_)
        refine Ends.eq (b637_39 l2 (by omega)) ?_
        cases eg : gk k
        · rw [eg, if_neg Bool.false_ne_true] at ex
          refine Ends.b1 (fun z => absurd ex z) (fun _ => Ends.sm (K _ _ ⟨g.tr g2 (fun _ _ z => z), i2, ?_⟩))
          rw [e]
          show _ = if flC cs isC gk k = true then (k : Int) else _
          rw [if_pos (by unfold flC; rw [hk1, decide_eq_true h5, eg]; rfl)]
        · rw [eg, if_pos rfl] at ex
          refine Ends.b1 (fun _ => next q2 l2 (g.tr g2 (fun _ _ z => z)) i2 ?_) (fun z => absurd z (by omega))
          unfold flC
          rw [eg]; simp
  refine Ends.eq (b637_0 l (by omega)) ?_
  exact loop nk 0 h (by omega) l Agr.rf i0 rfl
theorem c_constraintsOf579 (l : LX B n h) (hd : 10 ≤ d) (S : YS B w1 h) (C : CsM B h w1 nk cs xa xb xc) (hc : ∀ k, k < nk → hv h (w1 + 12) k = b2i (isC k)) :
    Vt 2 (cll PP (ev PP (gsF gv) B) d 579 [(2, rf (B + 149)), (2, rf w1)] h) (fun x h' => Agr (fun c _ => c = B + 165) h h' ∧ x = rf (B + 165) ∧ ∀ k, k < nk → hv h' (B + 165) k = b2i (isC k)) := by
  have lo := S.lo
  refine Vt.inq (D := 9) hd (Nat.le_of_ble_eq_true rfl) rfl (fun d hd Q K => ?_)
  have loop : ∀ (r k : Nat) (q : AH), k + r = nk → LX B n q → Agr (fun c _ => c = B + 165) h q → (∀ j, j < k → hv q (B + 165) j = b2i (isC j)) → Ends (ev PP (gsF gv) B d 579 2 [(2, rf (B + 149)), (2, rf w1), (0, (k : Int))] [] q) Q := by
    intro r
    induction r with
    | zero =>
      intro k q ek lq g hq
      obtain rfl : k = nk := by omega
      have Sq : YS B w1 q := S.agr g (fun k _ z => by omega)
      refine Ends.eq (b579_2 lq (by omega) Sq) ?_
      rw [g.at _ _ (by omega), C.1]
      exact Ends.b3 (fun _ => Ends.sm (K _ _ ⟨g, rfl, hq⟩)) (fun z => absurd z (Int.lt_irrefl _))
    | succ r ih =>
      intro k q ek lq g hq
      have Sq : YS B w1 q := S.agr g (fun k _ z => by omega)
      have nk32 := C.2.1
      refine Ends.eq (b579_2 lq (by omega) Sq) ?_
      rw [g.at _ _ (by omega), C.1, tn, w_succ (by omega), g.at _ _ (by omega), hc k (by omega), show anar 3 (b2i (isC k)) = b2i (isC k) from by cases isC k <;> rfl]
      refine Ends.b3 (fun z => absurd z (by omega)) (fun _ => Ends.g ⟨by omega, by omega⟩ ?_)
      refine ih (k + 1) _ (by omega) (lq.setS rfl) (g.set rfl) (fun j hj => ?_)
      by_cases e : j = k
      · rw [e, hv_set_at]
      · rw [hv_set_ne (by omega)]; exact hq j (by omega)
  refine Ends.eq (b579_0 l (by omega)) ?_
  exact loop nk 0 h (by omega) l Agr.rf (fun j hj => absurd hj (Nat.not_lt_zero j))
theorem GB.big24 {u : Nat} {W : (Nat → Bool) → Int} {T : Nat → Bool} (b : GB u W) (hu : u ≤ 24) : -1351361363187859456 ≤ W T ∧ W T ≤ 1351361363187859456 := by
  have h1 := (b.2 T).2
  have h2 : (4 ^ u : Nat) ≤ 4 ^ 24 := Nat.pow_le_pow_right (by decide) hu
  have h3 : (u * 200 + 1) * 4 ^ u ≤ 4801 * 4 ^ 24 := Nat.mul_le_mul (by omega) h2
  have h4 : (4801 * 4 ^ 24 : Nat) = 1351361363187859456 := by decide
  omega
theorem jac_24 {u c j : Nat} {W : (Nat → Bool) → Int} {C' : Nat → Bool} {t : Int} (b : GB u W) (hu : u ≤ 24) (tt : t * t = 1) : -1351361363187859456 ≤ jac 25 W C' t c j ∧ jac 25 W C' t c j ≤ 1351361363187859456 := by
  cases cj : C' j
  · have := jac_abs (w := W) (c := c) tt cj
    have := b.big24 (T := mns (pls C' j) c) hu
    omega
  · by_cases e : c = j
    · rw [e, jac_on cj]
      have := de_abs (w := W) (C := C') tt
      have := b.big24 (T := C') hu
      omega
    · rw [jac_off cj e]; omega
/-- points as drawn -/
def DrM (h : AH) (w1 np : Nat) (dr : Nat → Int) : Prop := hv h w1 2 = (np : Int) ∧ np ≤ 12 ∧ (∀ p, p < np → hv h (w1 + 1) p = dr (2 * p) ∧ hv h (w1 + 2) p = dr (2 * p + 1)) ∧ (∀ j, -200 ≤ dr j ∧ dr j ≤ 200) ∧ ∀ j, 2 * np ≤ j → dr j = 0
theorem DrM.agr {q : AH} (D : DrM h w1 np dr) (S : YS B w1 h) (g : Agr (hlW B) h q) : DrM q w1 np dr := by
  have lo := S.lo
  have at_ : ∀ j k, hv q (w1 + j) k = hv h (w1 + j) k := fun j k => g.at _ _ (fun z => by have := ho_lo z; omega)
  obtain ⟨a, b, c, e⟩ := D
  exact ⟨by rw [show w1 = w1 + 0 from rfl, at_]; exact a, b, fun p hp => by rw [at_, at_]; exact c p hp, e⟩
/-- the sum over unknowns that are free -/
def sFr (W : (Nat → Bool) → Int) (C' : Nat → Bool) (t : Int) (dr : Nat → Int) (c m : Nat) : Int := sI (fun j => if C' j = true then 0 else jac 25 W C' t c j * dr j) m
/-- what the model's rows solve -/
def sXM (W : (Nat → Bool) → Int) (C' : Nat → Bool) (t : Int) (dr : Nat → Int) (m k : Nat) : Int := if C' k = true then jac 25 W C' t k 24 - sFr W C' t dr k m else dr k * (t * W C')
theorem sFr_all {W : (Nat → Bool) → Int} {C' : Nat → Bool} {t : Int} {c m : Nat} (hm : m ≤ 24) (hz : ∀ j, m ≤ j → dr j = 0) : sFr W C' t dr c 24 = sFr W C' t dr c m := by
  unfold sFr
  obtain ⟨k, ek⟩ : ∃ k, 24 = m + k := ⟨24 - m, by omega⟩
  rw [ek]
  exact sI_cut (fun j hj => by rw [hz j hj]; split <;> simp) k
theorem sln_of {E : (Nat → Int) → Int → Prop} {A : (Nat → Int) → Prop} {u m : Nat} {W : (Nat → Bool) → Int} {C' : Nat → Bool} {t : Int} {pc : Nat → Nat} {q : AH} (R : RepE 24 E A) (F : GjF B q A u W C' t pc) (hm : m ≤ 24) (hz : ∀ j, m ≤ j → dr j = 0) : Sln E m dr (sXM W C' t dr m) (t * W C') ∧ ∀ k, k < 24 → (Fre E k ↔ C' k = false) := by
  obtain ⟨⟨f1, f2, f3, f4⟩, f5, f6, f7, f8⟩ := F
  have c24 : C' 24 = false := by
    cases e : C' 24
    · rfl
    · have := (f6 24 e).1; omega
  have fr : ∀ k, k < 24 → (Fre E k ↔ C' k = false) := fun k hk => by
    cases e : C' k
    · exact ⟨fun _ => rfl, fun _ => fre_of R (Nat.le_refl 24) f1 c24 f4 hk e (fun i hi ci => (f8 k hk e).2 i hi ci)⟩
    · exact ⟨fun z => absurd z (not_fre R (Nat.le_refl 24) f1 f3 hk e (fun j h1 h2 cj => (f8 j h2 cj).2 k h1 e)), fun z => absurd z (by decide)⟩
  refine ⟨⟨f1.2.1, (hx_iff R (Nat.le_refl 24) f1 f3 f4).mpr (fun c hc cc => ?_), fun k hk hf => ?_⟩, fr⟩
  · have hc24 : c < 24 := (f6 c cc).1
    unfold dot
    rw [sI_s]
    have e1 : sI (fun j => jac 25 W C' t c j * xs 24 (sXM W C' t dr m) (t * W C') j) 24 = sI (fun j => if j = c then (t * W C') * sXM W C' t dr m c else (t * W C') * (if C' j = true then 0 else jac 25 W C' t c j * dr j)) 24 := sI_congr 24 (fun j hj => by
      unfold xs
      rw [if_neg (by omega)]
      by_cases e : j = c
      · rw [if_pos e, e, jac_on cc]
      · rw [if_neg e]
        by_cases cj : C' j = true
        · rw [if_pos cj, jac_off cj (Ne.symm e), Int.zero_mul, Int.mul_zero]
        · rw [if_neg cj]
          unfold sXM
          rw [if_neg cj]; grind)
    have e2 : sI (fun j => if j = c then (t * W C') * sXM W C' t dr m c else (t * W C') * (if C' j = true then 0 else jac 25 W C' t c j * dr j)) 24 = (t * W C') * sXM W C' t dr m c + (t * W C') * sFr W C' t dr c 24 := by
      rw [sI_pick (k := c) 24 hc24, if_pos rfl]
      congr 1
      unfold sFr
      rw [← sI_mul]
      refine sI_congr 24 (fun j _ => ?_)
      by_cases e : j = c
      · rw [if_pos e, e, if_pos cc, Int.mul_zero]
      · rw [if_neg e, if_neg e]
    rw [e1, e2, sFr_all hm hz]
    unfold xs
    rw [if_pos rfl]
    unfold sXM
    rw [if_pos cc]
    generalize t * W C' = D
    generalize sFr W C' t dr c m = F1
    generalize jac 25 W C' t c 24 = J
    grind
  · have ck := (fr k (by omega)).mp hf
    unfold sXM
    rw [if_neg (by rw [ck]; exact Bool.false_ne_true)]
theorem sFr_b {W : (Nat → Bool) → Int} {C' : Nat → Bool} {t : Int} {c u : Nat} (b : GB u W) (hu : u ≤ 24) (tt : t * t = 1) (hC : ∀ i, 24 ≤ i → C' i = false) (hdr : ∀ j, -200 ≤ dr j ∧ dr j ≤ 200) : ∀ m : Nat, m ≤ 24 → -(435356467200 * (m : Int)) ≤ sFr W C' t dr c m ∧ sFr W C' t dr c m ≤ 435356467200 * (m : Int)
  | 0, _ => by
    show -(435356467200 * 0) ≤ (0 : Int) ∧ (0 : Int) ≤ 435356467200 * 0
    decide
  | m + 1, hm => by
    have i := sFr_b (c := c) b hu tt hC hdr m (by omega)
    have j := jac_lo (c := c) (j := m) b hu tt hC (by omega)
    have e : sFr W C' t dr c (m + 1) = sFr W C' t dr c m + (if C' m = true then 0 else jac 25 W C' t c m * dr m) := rfl
    have bd : -435356467200 ≤ (if C' m = true then (0 : Int) else jac 25 W C' t c m * dr m) ∧ (if C' m = true then (0 : Int) else jac 25 W C' t c m * dr m) ≤ 435356467200 := by
      split
      · exact ⟨by decide, by decide⟩
      · have h1 := abs_mul (x := jac 25 W C' t c m) (y := dr m) (a := 2176782336) (b := 200) (by unfold mB at j; omega) (by have := hdr m; omega)
        omega
    rw [e]
    omega
theorem fr_d {a b : Int} (h2 : -4611686018427387904 ≤ b ∧ b ≤ 4611686018427387904) (hb : b ≠ 0) : cond (tst 3 (cmp64 b 0) 0) (bop64 109 b (Int.gcd a b : Int)) (bop64 109 (uop 1 b) (Int.gcd a b : Int)) = mD a b := by
  obtain ⟨g1, g2, g3⟩ := gcd_pos (a := a) hb
  unfold mD
  rw [ct3]
  by_cases z : b < 0
  · rw [if_pos (cmp64_neg.mpr z), if_pos z, neg64 (by omega) (by omega)]
    exact ldvd (by omega) g1 (Int.dvd_neg.mpr g3)
  · rw [if_neg (fun y => z (cmp64_neg.mp y)), if_neg z]
    exact ldvd h2 g1 g3
/-- what the model's solving told -/
def SolM (B : Nat) (h' : AH) (nk np : Nat) (isC gk : Nat → Bool) (cs : Nat → Cst) (w dr : Nat → Int) (x : Int) : Prop :=
  (x = 3 ∧ 0 ≤ fstB (flC cs isC gk) nk 0) ∨ (x = 2 ∧ fstB (flC cs isC gk) nk 0 < 0 ∧ ¬ Sat (EqE nk isC cs w)) ∨ (fstB (flC cs isC gk) nk 0 < 0 ∧ Sat (EqE nk isC cs w) ∧ x = (if 0 < cntN (freB (EqE nk isC cs w)) (2 * np) then 1 else 0) ∧ hv h' (B + 149) 47 = ((cntN (freB (EqE nk isC cs w)) (2 * np) : Nat) : Int) ∧ ∃ X s, Sln (EqE nk isC cs w) (2 * np) dr X s ∧ ∀ k, k < 2 * np → hv h' (B + 166) k = mN (X k) s ∧ hv h' (B + 167) k = mD (X k) s)
def xxW (B : Nat) : Nat → Nat → Prop := fun c k => c = B + 166 ∨ c = B + 167 ∨ (c = B + 149 ∧ k = 47)
theorem xx_sk {c k : Nat} (h : xxW B c k) : skW B c k := by unfold xxW at h; unfold skW; omega
set_option maxHeartbeats 1000000 in
theorem c_solved837 (l : LX B n h) (hd : 996 ≤ d) (S : YS B w1 h) (C : CsM B h w1 nk cs xa xb xc) (hc : ∀ k, k < nk → hv h (w1 + 12) k = b2i (isC k)) (D : DrM h w1 np dr) (hInv : ∀ q q', Inv q → Agr (skW B) q q' → Inv q') (i0 : Inv h) (HG : GvF gv B n w1 nk h cs w isC gk Inv) :
    Vt 0 (cll PP (ev PP (gsF gv) B) d 837 [(2, rf (B + 149)), (2, rf w1)] h) (fun x h' => Agr (hlW B) h h' ∧ Inv h' ∧ SolM B h' nk np isC gk cs w dr x) := by
  have lo := S.lo
  refine Vt.inq (D := 995) hd (Nat.le_of_ble_eq_true rfl) rfl (fun d hd Q K => ?_)
  refine Ends.eq (b837_0 (n := n) (by (repeat' first | assumption | refine LX.setF _ _ ?_ (by decide +kernel) | refine LX.setS ?_ rfl | refine LX.setA ?_ (by first | assumption | omega))) (by first | assumption | omega)) ?_
  refine Ends.ct l (by decide +kernel) (by decide) (c_firstFaulty637 (h0 := h) l (by omega) S C hc hInv i0 HG (fun _ => rfl)) (fun y q1 l1 _ _ _ ⟨g1, i1, ey⟩ => ?_)
  have G1 : Agr (hlW B) h q1 := g1.sub (fun _ _ z => Or.inr z)
  have S1 := ys_ho S G1
  have C1 := C.agr S G1
  have at1 : ∀ j k, hv q1 (w1 + j) k = hv h (w1 + j) k := fun j k => G1.at _ _ (fun z => by have := ho_lo z; omega)
  refine Ends.eq (b837_5 (n := n) (by (repeat' first | assumption | refine LX.setF _ _ ?_ (by decide +kernel) | refine LX.setS ?_ rfl | refine LX.setA ?_ (by first | assumption | omega))) (by first | assumption | omega)) ?_
  rw [ey]
  refine Ends.b2 (fun z => ?_) (fun z => Ends.sm (K _ _ ⟨G1, i1, Or.inl ⟨rfl, z⟩⟩))
  have nf : ∀ k, k < nk → flC cs isC gk k = false := fun k hk => fstB_neg nk 0 z k (Nat.zero_le k) (by omega)
  refine Ends.ct l1 (by decide +kernel) (by decide) (c_constraintsOf579 (isC := isC) l1 (by omega) S1 C1 (fun k hk => by rw [at1]; exact hc k hk)) (fun y2 q2 l2 _ _ _ ⟨g2, e2, s2⟩ => ?_)
  subst e2
  have g2' : Agr (skW B) q1 q2 := g2.sub (fun c k z => Or.inr (by omega))
  have G2 : Agr (hlW B) h q2 := G1.tr g2' (fun _ _ z => Or.inl z)
  have S2 := ys_ho S G2
  have C2 := C.agr S G2
  have i2 := hInv _ _ i1 g2'
  have at2 : ∀ j k, hv q2 (w1 + j) k = hv h (w1 + j) k := fun j k => G2.at _ _ (fun z => by have := ho_lo z; omega)
  have HG2 : GvC gv B n w1 nk q2 cs w isC Inv := by
    intro k d' q hk0 hs0 h5 lq hd' i
    rw [at2]
    exact HG.c (sel := isC) (fun _ _ z => z) nf k d' q hk0 hs0 h5 lq hd' i
  refine Ends.eq (b837_17 (n := n) (by (repeat' first | assumption | refine LX.setF _ _ ?_ (by decide +kernel) | refine LX.setS ?_ rfl | refine LX.setA ?_ (by first | assumption | omega))) (by first | assumption | omega)) ?_
  refine Ends.ct l2 (by decide +kernel) (by decide) (c_holds672 l2 (by omega) S2 C2 hInv i2 HG2 s2) (fun y3 q3 l3 _ _ _ ⟨g3, i3, _, r3⟩ => ?_)
  have G3 : Agr (hlW B) h q3 := G2.tr g3 (fun _ _ z => z)
  have S3 := ys_ho S G3
  refine Ends.eq (b837_20 (n := n) (by (repeat' first | assumption | refine LX.setF _ _ ?_ (by decide +kernel) | refine LX.setS ?_ rfl | refine LX.setA ?_ (by first | assumption | omega))) (by first | assumption | omega)) ?_
  rcases r3 with ⟨e3, sat, A, u, W, C', t, pc, rep, rbA, F⟩ | ⟨e3, ns⟩
  · rw [e3]
    refine Ends.b1 (fun _ => ?_) (fun z => absurd z (by decide))
    have D3 : DrM q3 w1 np dr := D.agr S G3
    obtain ⟨d1, d2, d3, d4, d5⟩ := D3
    obtain ⟨sln, frE⟩ := sln_of (m := 2 * np) (dr := dr) rep F (by omega) d5
    have F0 := F
    obtain ⟨⟨f1, fb, f3, f4⟩, ⟨fu, f37⟩, f6, f7, f8⟩ := F
    have cLo : ∀ i, 24 ≤ i → C' i = false := fun i hi => by
      cases e : C' i
      · rfl
      · have := (f6 i e).1; omega
    have de := de_lo (C := C') fb fu f1.1 cLo
    have mul2 : bop32 104 2 (np : Int) = ((2 * np : Nat) : Int) := mulNN (x := 2) (by omega)
    -- a drawn number
    have drv : ∀ (q : AH), Agr (xxW B) q3 q → ∀ k, k < 2 * np → (0 ≤ bop32 108 (k : Int) 2 ∧ bop32 108 (k : Int) 2 < ((12 : Nat) : Int)) ∧ (cond (tst 1 (bop32 112 (k : Int) 2) 0) (uop 2 (hv q (w1 + 2) (Int.toNat (bop32 108 (k : Int) 2)))) (uop 2 (hv q (w1 + 1) (Int.toNat (bop32 108 (k : Int) 2)))) = dr k) ∧ uop 2 (cond (tst 1 (bop32 112 (k : Int) 2) 0) (hv q (w1 + 2) (Int.toNat (bop32 108 (k : Int) 2))) (hv q (w1 + 1) (Int.toNat (bop32 108 (k : Int) 2)))) = dr k := fun q g k hk => by
      rw [show bop32 108 (k : Int) 2 = ((k / 2 : Nat) : Int) from divNN (y := 2) (by omega) (by decide), show bop32 112 (k : Int) 2 = ((k % 2 : Nat) : Int) from modNN (y := 2) (by decide) (by decide), tn, g.at _ _ (fun z => by unfold xxW at z; omega), g.at _ _ (fun z => by unfold xxW at z; omega), (d3 (k / 2) (by omega)).1, (d3 (k / 2) (by omega)).2, ct1, ct1]
      have u2 : ∀ j, uop 2 (dr j) = dr j := fun _ => rfl
      by_cases e : k % 2 = 0
      · rw [if_pos (by omega), if_pos (by omega), u2, show 2 * (k / 2) = k by omega]
        exact ⟨⟨by omega, by omega⟩, rfl, rfl⟩
      · rw [if_neg (by omega), if_neg (by omega), u2, show 2 * (k / 2) + 1 = k by omega]
        exact ⟨⟨by omega, by omega⟩, rfl, rfl⟩
    have pvT : ∀ k, C' k = true → ∃ i : Nat, i < u ∧ hv q3 (B + 162) k = (i : Int) ∧ ∀ j, j < 25 → hv q3 (B + 160) (25 * i + j) = jac 25 W C' t k j := fun k ck => by
      obtain ⟨-, i, h1, h2⟩ := f6 k ck
      obtain ⟨a1, a2, a3⟩ := f7 i h1
      rw [h2] at a2 a3
      exact ⟨i, h1, a2, a3⟩
    -- all is told
    have done : ∀ (q : AH), LX B n q → Agr (xxW B) q3 q → hv q (B + 149) 47 = ((cntN (fun j => !C' j) (2 * np) : Nat) : Int) → (∀ j, j < 2 * np → hv q (B + 166) j = mN (sXM W C' t dr (2 * np) j) (t * W C') ∧ hv q (B + 167) j = mD (sXM W C' t dr (2 * np) j) (t * W C')) → Ends (some ((0, (0, cond (tst 5 (hv q (B + 149) 47) 0) (0 : Int) 1)), q)) Q := fun q lq g e47 ex => by
      have ec : cntN (fun j => !C' j) (2 * np) = cntN (freB (EqE nk isC cs w)) (2 * np) := cntN_congr _ (fun j hj => by
        cases e : C' j
        · exact (freB_iff.mpr ((frE j (by omega)).mpr e)).symm
        · cases e2 : freB (EqE nk isC cs w) j
          · rfl
          · have := (frE j (by omega)).mp (freB_iff.mp e2)
            rw [e] at this; cases this)
      refine Ends.sm (K _ _ ⟨G3.tr g (fun _ _ z => Or.inl (xx_sk z)), hInv _ _ i3 (g.sub (fun _ _ z => xx_sk z)), Or.inr (Or.inr ⟨z, sat, ?_, by rw [← ec]; exact e47, _, _, sln, ex⟩)⟩)
      rw [e47, ec, ct5]
      by_cases y : 0 < cntN (freB (EqE nk isC cs w)) (2 * np)
      · rw [if_pos (by omega), if_pos y]
      · rw [if_neg (by omega), if_neg y]
    -- what the rows tell
    have tell : ∀ (r k : Nat) (q : AH) (u3 u4 u5 u6 u7 : AV), k + r = 2 * np → LX B n q → Agr (xxW B) q3 q → hv q (B + 149) 47 = ((cntN (fun j => !C' j) (2 * np) : Nat) : Int) → (∀ j, j < 2 * np → (j < k ∨ C' j = false) → hv q (B + 166) j = mN (sXM W C' t dr (2 * np) j) (t * W C') ∧ hv q (B + 167) j = mD (sXM W C' t dr (2 * np) j) (t * W C')) → Ends (ev PP (gsF gv) B d 837 109 [(2, rf (B + 149)), (2, rf w1), (0, (k : Int)), u3, u4, u5, u6, u7] [] q) Q := by
      intro r
      induction r with
      | zero =>
        intro k q u3 u4 u5 u6 u7 ek lq g e47 ex
        have Sq := ys_ho S (G3.tr g (fun _ _ z => Or.inl (xx_sk z)))
        refine Ends.eq (b837_109 (n := n) (by (repeat' first | assumption | refine LX.setF _ _ ?_ (by decide +kernel) | refine LX.setS ?_ rfl | refine LX.setA ?_ (by first | assumption | omega))) (by first | assumption | omega) (by first | assumption | omega)) ?_
        rw [show hv q w1 2 = (np : Int) from by rw [g.at _ _ (fun z => by unfold xxW at z; omega)]; exact d1, mul2]
        exact Ends.b3 (fun _ => done q lq g e47 (fun j hj => ex j hj (Or.inl (by omega)))) (fun z => absurd z (by omega))
      | succ r ih =>
        intro k q u3 u4 u5 u6 u7 ek lq g e47 ex
        have Sq := ys_ho S (G3.tr g (fun _ _ z => Or.inl (xx_sk z)))
        have at_ : ∀ c k, B + 160 ≤ c → c ≤ B + 162 → hv q c k = hv q3 c k := fun c k h1 h2 => g.at _ _ (fun z => by unfold xxW at z; omega)
        refine Ends.eq (b837_109 (n := n) (by (repeat' first | assumption | refine LX.setF _ _ ?_ (by decide +kernel) | refine LX.setS ?_ rfl | refine LX.setA ?_ (by first | assumption | omega))) (by first | assumption | omega) (by first | assumption | omega)) ?_
        rw [show hv q w1 2 = (np : Int) from by rw [g.at _ _ (fun z => by unfold xxW at z; omega)]; exact d1, mul2, tn, at_ (B + 162) _ (by omega) (by omega)]
        refine Ends.b3 (fun z => absurd z (by omega)) (fun _ => Ends.g ⟨by omega, by omega⟩ ?_)
        have next : ∀ (q' : AH) (u3 u4 u5 u6 u7 : AV), LX B n q' → Agr (xxW B) q3 q' → hv q' (B + 149) 47 = ((cntN (fun j => !C' j) (2 * np) : Nat) : Int) → (∀ j, j < 2 * np → (j < k + 1 ∨ C' j = false) → hv q' (B + 166) j = mN (sXM W C' t dr (2 * np) j) (t * W C') ∧ hv q' (B + 167) j = mD (sXM W C' t dr (2 * np) j) (t * W C')) → Ends (ev PP (gsF gv) B d 837 301 [(2, rf (B + 149)), (2, rf w1), (0, (k : Int)), u3, u4, u5, u6, u7] [] q') Q := fun q' u3 u4 u5 u6 u7 l' g' e' x' => by
          refine Ends.eq (b837_301 l' (by omega)) ?_
          rw [w_succ (by omega)]
          exact ih (k + 1) q' _ _ _ _ _ (by omega) l' g' e' x'
        cases ck : C' k
        · rw [(f8 k (by omega) ck).1]
          refine Ends.b3 (fun z => absurd z (by decide)) (fun _ => next q _ _ _ _ _ lq g e47 (fun j hj hjk => ex j hj ?_))
          by_cases y : j = k
          · rw [y]; exact Or.inr ck
          · rcases hjk with a | a
            · exact Or.inl (by omega)
            · exact Or.inr a
        · obtain ⟨i, hi, e162, e160⟩ := pvT k ck
          have m25 : bop32 104 25 (i : Int) = ((25 * i : Nat) : Int) := mulNN (x := 25) (by omega)
          rw [e162, m25, show bop32 100 (bop32 96 ((25 * i : Nat) : Int) 25) 1 = ((25 * i + 24 : Nat) : Int) from by
            rw [show bop32 96 ((25 * i : Nat) : Int) 25 = ((25 * i + 25 : Nat) : Int) from addNN (y := 25) (by omega)]
            exact subNN (y := 1) (by omega) (by omega), tn, at_ (B + 160) _ (by omega) (by omega), e160 24 (by decide)]
          refine Ends.b3 (fun _ => Ends.g ⟨by omega, by omega⟩ ?_) (fun z => absurd z (by omega))
          have j24 := jac_24 (c := k) (j := 24) (C' := C') fb fu f1.1
          have sm : ∀ m : Nat, m ≤ 24 → -(435356467200 * (m : Int)) ≤ sFr W C' t dr k m ∧ sFr W C' t dr k m ≤ 435356467200 * (m : Int) := fun m hm => sFr_b fb fu f1.1 cLo d4 m hm
          -- less what is drawn
          have less : ∀ (s j : Nat) (u5 u7 : AV), j + s = 2 * np → ¬ u5.1 = 1 → Ends (ev PP (gsF gv) B d 837 157 [(2, rf (B + 149)), (2, rf w1), (0, (k : Int)), (0, ((25 * i : Nat) : Int)), (1, jac 25 W C' t k 24 - sFr W C' t dr k j), u5, (0, (j : Int)), u7] [] q) Q := by
            intro s
            induction s with
            | zero =>
              intro j u5 u7 ej h5
              obtain rfl : j = 2 * np := by omega
              refine Ends.eq (b837_157 (n := n) (by (repeat' first | assumption | refine LX.setF _ _ ?_ (by decide +kernel) | refine LX.setS ?_ rfl | refine LX.setA ?_ (by first | assumption | omega))) (by first | assumption | omega) (by first | assumption | omega)) ?_
              rw [show hv q w1 2 = (np : Int) from by rw [g.at _ _ (fun z => by unfold xxW at z; omega)]; exact d1, mul2, show hv q (B + 149) 37 = t * W C' from by rw [g.at _ _ (fun z => by unfold xxW at z; omega)]; exact f37]
              refine Ends.b3 (fun _ => ?_) (fun z => absurd z (Int.lt_irrefl _))
              have s1 := sm (2 * np) (by omega)
              have tb1 : -4611686018427387904 ≤ jac 25 W C' t k 24 - sFr W C' t dr k (2 * np) ∧ jac 25 W C' t k 24 - sFr W C' t dr k (2 * np) ≤ 4611686018427387904 := by omega
              have tb2 : -4611686018427387904 ≤ t * W C' ∧ t * W C' ≤ 4611686018427387904 := by unfold mB at de; omega
              obtain ⟨gp, -, -⟩ := gcd_pos (a := jac 25 W C' t k 24 - sFr W C' t dr k (2 * np)) f1.2.1
              refine Ends.ct lq (by decide +kernel) (by decide) (c_gcdM lq (by omega) tb1 tb2) (fun y q5 l5 _ _ _ ⟨ey5, eh5⟩ => ?_)
              subst ey5
              rw [eh5]
              refine Ends.eq (b837_237 h5 lq (by omega)) ?_
              rw [show hv q (B + 149) 37 = t * W C' from by rw [g.at _ _ (fun z => by unfold xxW at z; omega)]; exact f37, tn, an1, an1, lay_n tb1 f1.2.1, fr_d tb2 f1.2.1]
              refine Ends.g (by rw [ct3]; split <;> omega) (Ends.g ⟨by omega, by omega⟩ (Ends.g (by rw [ct3]; split <;> omega) ?_))
              refine next _ _ _ _ _ _ ((lq.setS rfl).setS rfl) ((g.set (Or.inl rfl)).set (Or.inr (Or.inl rfl))) (by rw [hv_set_ne (by omega), hv_set_ne (by omega)]; exact e47) (fun j hj hjk => ?_)
              by_cases y : j = k
              · have eX : sXM W C' t dr (2 * np) k = jac 25 W C' t k 24 - sFr W C' t dr k (2 * np) := if_pos ck
                rw [y, hv_set_ne (by omega), hv_set_at, hv_set_at, eX]
                exact ⟨rfl, rfl⟩
              · rw [hv_set_ne (by omega), hv_set_ne (by omega), hv_set_ne (by omega), hv_set_ne (by omega)]
                refine ex j hj ?_
                rcases hjk with a | a
                · exact Or.inl (by omega)
                · exact Or.inr a
            | succ s ihs =>
              intro j u5 u7 ej h5
              refine Ends.eq (b837_157 (n := n) (by (repeat' first | assumption | refine LX.setF _ _ ?_ (by decide +kernel) | refine LX.setS ?_ rfl | refine LX.setA ?_ (by first | assumption | omega))) (by first | assumption | omega) (by first | assumption | omega)) ?_
              rw [show hv q w1 2 = (np : Int) from by rw [g.at _ _ (fun z => by unfold xxW at z; omega)]; exact d1, mul2, tn, at_ (B + 162) _ (by omega) (by omega)]
              refine Ends.b3 (fun z => absurd z (by omega)) (fun _ => Ends.g ⟨by omega, by omega⟩ ?_)
              have step : sFr W C' t dr k (j + 1) = sFr W C' t dr k j + (if C' j = true then 0 else jac 25 W C' t k j * dr j) := rfl
              have go : ∀ (y : Int) (u5 u7 : AV), ¬ u5.1 = 1 → y = jac 25 W C' t k 24 - sFr W C' t dr k (j + 1) → Ends (ev PP (gsF gv) B d 837 222 [(2, rf (B + 149)), (2, rf w1), (0, (k : Int)), (0, ((25 * i : Nat) : Int)), (1, y), u5, (0, (j : Int)), u7] [] q) Q := fun y u5 u7 h5 e => by
                refine Ends.eq (b837_222 h5 lq (by omega)) ?_
                rw [w_succ (by omega), e]
                exact ihs (j + 1) _ _ (by omega) h5
              cases cj : C' j
              · rw [(f8 j (by omega) cj).1]
                refine Ends.b3 (fun z => absurd z (by decide)) (fun _ => ?_)
                obtain ⟨q1', -, q3'⟩ := drv q g j (by omega)
                rw [addNN (x := 25 * i) (y := j) (by omega), tn, at_ (B + 160) _ (by omega) (by omega), e160 j (by omega), q3']
                have s1 := sm j (by omega)
                have jl := jac_lo (c := k) (j := j) fb fu f1.1 cLo (by omega)
                have pr := abs_mul (x := jac 25 W C' t k j) (y := dr j) (a := 2176782336) (b := 200) (by unfold mB at jl; omega) (by have := d4 j; omega)
                refine Ends.g ⟨by omega, by omega⟩ (Ends.g (by cases tst 1 (bop32 112 (j : Int) 2) 0 <;> exact q1') ?_)
                rw [mul64 (x := jac 25 W C' t k j) (y := dr j) (by omega) (by omega), sub64 (by omega) (by omega)]
                refine go _ _ _ (by decide) ?_
                rw [step, cj, if_neg Bool.false_ne_true]; omega
              · obtain ⟨i', hi', e162', -⟩ := pvT j cj
                rw [e162']
                refine Ends.b3 (fun _ => go _ _ _ h5 ?_) (fun z => absurd z (by omega))
                rw [step, cj, if_pos rfl]; omega
          have := less (2 * np) 0 (9, 0) u7 (by omega) (by decide)
          rw [show sFr W C' t dr k 0 = 0 from rfl, Int.sub_zero] at this
          exact this
    -- what is drawn
    have draw : ∀ (r k : Nat) (q : AH) (u3 u4 u5 u6 u7 : AV), k + r = 2 * np → LX B n q → Agr (xxW B) q3 q → hv q (B + 149) 47 = ((cntN (fun j => !C' j) k : Nat) : Int) → (∀ j, j < k → hv q (B + 166) j = dr j ∧ hv q (B + 167) j = 1) → Ends (ev PP (gsF gv) B d 837 32 [(2, rf (B + 149)), (2, rf w1), (0, (k : Int)), u3, u4, u5, u6, u7] [] q) Q := by
      intro r
      induction r with
      | zero =>
        intro k q u3 u4 u5 u6 u7 ek lq g e47 ex
        obtain rfl : k = 2 * np := by omega
        have Sq := ys_ho S (G3.tr g (fun _ _ z => Or.inl (xx_sk z)))
        refine Ends.eq (b837_32 (n := n) (by (repeat' first | assumption | refine LX.setF _ _ ?_ (by decide +kernel) | refine LX.setS ?_ rfl | refine LX.setA ?_ (by first | assumption | omega))) (by first | assumption | omega) (by first | assumption | omega)) ?_
        rw [show hv q w1 2 = (np : Int) from by rw [g.at _ _ (fun z => by unfold xxW at z; omega)]; exact d1, mul2]
        refine Ends.b3 (fun _ => ?_) (fun z => absurd z (Int.lt_irrefl _))
        refine tell (2 * np) 0 q _ _ _ _ _ (by omega) lq g e47 (fun j hj hjk => ?_)
        rcases hjk with a | a
        · exact absurd a (Nat.not_lt_zero j)
        · have eX : sXM W C' t dr (2 * np) j = dr j * (t * W C') := if_neg (by rw [a]; exact Bool.false_ne_true)
          obtain ⟨o1, o2⟩ := mN_one (a := dr j) f1.2.1
          rw [eX, o1, o2]; exact ex j hj
      | succ r ih =>
        intro k q u3 u4 u5 u6 u7 ek lq g e47 ex
        have Sq := ys_ho S (G3.tr g (fun _ _ z => Or.inl (xx_sk z)))
        have gs : Agr (xxW B) q3 (hset q (B + 167) k 1) := g.set (Or.inr (Or.inl rfl))
        obtain ⟨b1, b2, -⟩ := drv _ gs k (by omega)
        refine Ends.eq (b837_32 (n := n) (by (repeat' first | assumption | refine LX.setF _ _ ?_ (by decide +kernel) | refine LX.setS ?_ rfl | refine LX.setA ?_ (by first | assumption | omega))) (by first | assumption | omega) (by first | assumption | omega)) ?_
        rw [show hv q w1 2 = (np : Int) from by rw [g.at _ _ (fun z => by unfold xxW at z; omega)]; exact d1, mul2]
        simp only [tn]
        rw [show anar 1 1 = 1 from rfl, b2, an1, g.at _ _ (fun z => by unfold xxW at z; omega), e47]
        refine Ends.b3 (fun z => absurd z (by omega)) (fun _ => Ends.g ⟨by omega, by omega⟩ (Ends.g (by cases tst 1 (bop32 112 (k : Int) 2) 0 <;> exact b1) ?_))
        have next : ∀ (q' : AH), LX B n q' → Agr (xxW B) q3 q' → hv q' (B + 149) 47 = ((cntN (fun j => !C' j) (k + 1) : Nat) : Int) → (∀ j, j < k + 1 → hv q' (B + 166) j = dr j ∧ hv q' (B + 167) j = 1) → Ends (ev PP (gsF gv) B d 837 101 [(2, rf (B + 149)), (2, rf w1), (0, (k : Int)), u3, u4, u5, u6, u7] [] q') Q := fun q' l' g' e' x' => by
          refine Ends.eq (b837_101 l' (by omega)) ?_
          rw [w_succ (by omega)]
          exact ih (k + 1) q' _ _ _ _ _ (by omega) l' g' e' x'
        have x2 : ∀ j, j < k + 1 → hv (hset (hset q (B + 167) k 1) (B + 166) k (dr k)) (B + 166) j = dr j ∧ hv (hset (hset q (B + 167) k 1) (B + 166) k (dr k)) (B + 167) j = 1 := fun j hj => by
          by_cases y : j = k
          · rw [y, hv_set_at, hv_set_ne (by omega), hv_set_at]; exact ⟨rfl, rfl⟩
          · rw [hv_set_ne (by omega), hv_set_ne (by omega), hv_set_ne (by omega), hv_set_ne (by omega)]
            exact ex j (by omega)
        cases ck : C' k
        · rw [(f8 k (by omega) ck).1]
          refine Ends.b3 (fun z => absurd z (by decide)) (fun _ => ?_)
          have cb := cntN_le (fun j => !C' j) k
          rw [show bop32 96 ((cntN (fun j => !C' j) k : Nat) : Int) 1 = ((cntN (fun j => !C' j) k + 1 : Nat) : Int) from addNN (y := 1) (by omega)]
          refine next _ (LX.setF 149 47 ((lq.setS rfl).setS rfl) (by decide +kernel)) ((gs.set (Or.inl rfl)).set (Or.inr (Or.inr ⟨rfl, rfl⟩))) ?_ (fun j hj => ?_)
          · rw [hv_set_at, cntN_s, ck]; rfl
          · rw [hv_set_ne (by omega), hv_set_ne (a := B + 149) (by omega)]
            exact x2 j hj
        · obtain ⟨i, hi, e162, -⟩ := pvT k ck
          rw [e162]
          refine Ends.b3 (fun _ => ?_) (fun z => absurd z (by omega))
          refine next _ ((lq.setS rfl).setS rfl) (gs.set (Or.inl rfl)) ?_ x2
          rw [hv_set_ne (by omega), hv_set_ne (by omega), e47, cntN_s, ck]; rfl
    refine draw (2 * np) 0 _ _ _ _ _ _ (by omega) (LX.setF 149 47 l3 (by decide +kernel)) (Agr.rf.set (Or.inr (Or.inr ⟨rfl, rfl⟩))) (by rw [hv_set_at]; rfl) (fun j hj => absurd hj (Nat.not_lt_zero j))
  · rw [e3]
    exact Ends.b1 (fun z => absurd rfl z) (fun _ => Ends.sm (K _ _ ⟨G3, i3, Or.inr (Or.inl ⟨rfl, z, ns⟩)⟩))
end SOLVED
