/-! L3: sketches solved (desk) -/
section WORKD
variable {gv : Nat → Int} {B n d m s nk np : Nat} {h : AH} {c : Nat → Int} {cs : Nat → Cst} {w xa xb xc dr : Nat → Int} {isC gk sel : Nat → Bool} {Inv : AH → Prop} {W : Nat → Nat → Prop} {E : (Nat → Int) → Int → Prop}
theorem EqE.skip {k : Nat} (z : sel k = false) : ∀ x y, EqE k sel cs w x y ↔ EqE (k + 1) sel cs w x y := fun x y => by
  constructor
  · rintro ⟨k', i, h1, h2, h3⟩
    exact ⟨k', i, by omega, h2, h3⟩
  · rintro ⟨k', i, h1, h2, h3⟩
    rcases (by omega : k' < k ∨ k' = k) with u | u
    · exact ⟨k', i, u, h2, h3⟩
    · rw [u, z] at h2; cases h2
theorem EqE.step {k : Nat} {y' : Int} (z : sel k = true) (e : ∀ i, i < nuE (cs k) → rhC (cs k) y' i = rhC (cs k) (w k) i) : ∀ x y, upE (EqE k sel cs w) (cs k) y' (nuE (cs k)) x y ↔ EqE (k + 1) sel cs w x y := fun x y => by
  constructor
  · rintro (⟨k', i, h1, h2, h3⟩ | ⟨i, h1, h2, h3⟩)
    · exact ⟨k', i, by omega, h2, h3⟩
    · exact ⟨k, i, by omega, z, ok_nu.mp h1, h2, by rw [h3, e i h1]⟩
  · rintro ⟨k', i, h1, h2, h3, h4, h5⟩
    rcases (by omega : k' < k ∨ k' = k) with u | u
    · exact Or.inl ⟨k', i, u, h2, h3, h4, h5⟩
    · subst u
      exact Or.inr ⟨i, ok_nu.mpr h3, h4, by rw [h5, e i (ok_nu.mpr h3)]⟩
theorem rh_given {k : Nat} (ik : isC k = true) (hf : flC cs isC gk k = false) (i : Nat) : rhC (cs k) (wD cs w gk k) i = rhC (cs k) (w k) i := by
  unfold rhC wD
  by_cases z : i = 0 ∧ (cs k).1 ≤ 5
  · rw [if_pos z, if_pos z]
    have g : gk k = true := by
      unfold flC at hf
      rw [ik, decide_eq_true z.2] at hf
      simpa using hf
    rw [if_pos ⟨z.2, g⟩]
  · rw [if_neg z, if_neg z]
/-- what is drawn -/
def DrD (c : Nat → Int) (s np : Nat) (dr : Nat → Int) : Prop := c (skA s + 2) = (np : Int) ∧ np ≤ 12 ∧ (∀ j, j < 2 * np → c (skA s + 3 + j) = dr j) ∧ ∀ j, -200 ≤ dr j ∧ dr j ≤ 200
/-- a sketch of the desk -/
def SkD (c : Nat → Int) (s nk np : Nat) (cs : Nat → Cst) (xa xb xc : Nat → Int) (isC : Nat → Bool) (dr : Nat → Int) : Prop := CsD c s nk cs xa xb xc isC ∧ DrD c s np dr ∧ ∀ k, k < nk → isC k = true → LoC (2 * np) (cs k)
/-- what sketches work with -/
def sdW (B : Nat) : Nat → Nat → Prop := fun c k => (c = B + 57 ∧ (k ≤ 2 ∨ k = 8 ∨ k = 9)) ∨ (B + 58 ≤ c ∧ c ≤ B + 62)
/-- what a sketch keeps -/
def keW (B s : Nat) : Nat → Nat → Prop := fun c k => (c = B + 65 ∧ k = s) ∨ ((c = B + 66 ∨ c = B + 67) ∧ 24 * s ≤ k ∧ k < 24 * s + 24)
def wkD (W : Nat → Nat → Prop) (B s : Nat) : Nat → Nat → Prop := fun c k => W c k ∨ sdW B c k ∨ keW B s c k
theorem ad_sd {c k : Nat} (z : adW B c k) : sdW B c k := by unfold adW at z; unfold sdW; omega
theorem eq_sd {c k : Nat} (z : eqW B c k) : sdW B c k := by unfold eqW at z; unfold sdW; omega
theorem br_wk {c k : Nat} (z : brW W B c k) : wkD W B s c k := by
  rcases z with z | z
  · exact Or.inl z
  · exact Or.inr (Or.inl (ad_sd z))
theorem v394_is (hc : ∀ z, z < 37368 → hv h (B + 2) z = c z) (hs : s < 6) (C : CsD c s nk cs xa xb xc isC) : q394 B h (s : Int) ∧ v394 B h (s : Int) = (nk : Int) := by
  unfold q394 v394
  rw [v391_is hs, show bop32 96 ((skA s : Nat) : Int) 479 = ((skA s + 479 : Nat) : Int) from addK (k := 479) (by unfold skA; omega)]
  obtain ⟨a, b⟩ := cell_is (i := skA s + 479) hc (by unfold skA; omega)
  exact ⟨a, by rw [b]; exact C.1⟩
theorem v407_is {k : Nat} (hc : ∀ z, z < 37368 → hv h (B + 2) z = c z) (hs : s < 6) (C : CsD c s nk cs xa xb xc isC) (hk : k < nk) : q407 B h (s : Int) (k : Int) ∧ v407 B h (s : Int) (k : Int) = b2i (isC k) := by
  obtain ⟨a1, a2⟩ := v394_is hc hs C
  have kn := C.2.1
  obtain ⟨-, -, -, -, -, e4, -⟩ := C.2.2 k hk
  have hco : coA s k < 37000 := by unfold coA skA; omega
  obtain ⟨b1, b2⟩ := cell_is (i := coA s k + 4) hc (by omega)
  have t2 : tst 2 (k : Int) 0 = false := by
    have : (cond (tst 2 (k : Int) 0) (0 : Int) 1) = 1 := by rw [ct2, if_neg (by omega)]
    cases e : tst 2 (k : Int) 0
    · rfl
    · rw [e] at this; cases this
  have t3 : tst 3 (k : Int) (nk : Int) = false := by
    have : (cond (tst 3 (k : Int) (nk : Int)) (0 : Int) 1) = 1 := by rw [ct3, if_pos (by omega)]
    cases e : tst 3 (k : Int) (nk : Int)
    · rfl
    · rw [e] at this; cases this
  unfold q407 v407
  rw [a2, t2, t3, v393_is hs (by omega), show bop32 96 ((coA s k : Nat) : Int) 4 = ((coA s k + 4 : Nat) : Int) from addK (k := 4) (by omega), b2, e4]
  refine ⟨⟨a1, b1⟩, ?_⟩
  show cond (tst 1 (b2i (isC k)) 1) (0 : Int) 1 = _
  rw [ct1]
  cases isC k <;> rfl
/-- one constraint more -/
theorem c_bringE {con : Bool} {k : Nat} (l : LX B n h) (hd : 406 ≤ d) (hc : ∀ z, z < 37368 → hv h (B + 2) z = c z) (hs : s < 6) (S : SkD c s nk np cs xa xb xc isC dr) (hk : k < nk) (ik : isC k = true) (sk : sel k = true) (HG : GvD gv B n s nk W cs w isC gk Inv) (hf : flC cs isC gk k = false) (i0 : Inv h) (hI : ∀ q q', Inv q → Agr (sdW B) q q' → Inv q') (hW : ∀ c k, W c k → ¬ sdW B c k ∧ c ≠ B + 2) (D : EqD B h (2 * np) (EqE k sel cs w) con) :
    Vt 0 (cll PP (ev PP (gsF gv) B) d 389 [(2, rf (B + 56)), (0, (s : Int)), (0, (k : Int))] h) (fun _ h' => Agr (brW W B) h h' ∧ Inv h' ∧ ∃ con', EqD B h' (2 * np) (EqE (k + 1) sel cs w) con') := by
  have h12 := S.2.1.2.1
  obtain ⟨x, h', ex, g, i1, con', fo, D', -, -⟩ := c_bring389 l hd hc hs S.1 hk ik HG i0 (fun q q' i g => hI q q' i (g.sub (fun _ _ z => ad_sd z))) (fun c k z => ⟨fun u => (hW c k z).1 (eq_sd u), (hW c k z).2⟩) (by omega) (S.2.2 k hk ik) D
  exact ⟨x, h', ex, g, i1, con', D'.cg (EqE.step sk (fun i _ => rh_given ik hf i))⟩
/-- with those as drawn that are not settled -/
def Ek (E : (Nat → Int) → Int → Prop) (dr : Nat → Int) (k : Nat) : (Nat → Int) → Int → Prop := fun a b => E a b ∨ ∃ j, j < k ∧ Fre E j ∧ a = uni j ∧ b = dr j
theorem ek_iff {k : Nat} (hk : k < 24) (inv : ∀ z, Hx (Ek E dr k) z 0 → ∀ j, j < k → z j = 0) : (∃ z, Hx (Ek E dr k) z 0 ∧ z k ≠ 0) ↔ Fre E k := by
  constructor
  · rintro ⟨z, H, zk⟩
    exact ⟨z, fun a b e => H a b (Or.inl e), inv z H, zk⟩
  · rintro ⟨x, H, x0, xk⟩
    refine ⟨x, fun a b e => ?_, xk⟩
    rcases e with e | ⟨j, hj, -, e1, e2⟩
    · exact H a b e
    · rw [e1, dot_uni (by omega), x0 j hj, Int.mul_zero]
theorem ek_inv {k : Nat} (hk : k < 24) (inv : ∀ z, Hx (Ek E dr k) z 0 → ∀ j, j < k → z j = 0) : ∀ z, Hx (Ek E dr (k + 1)) z 0 → ∀ j, j < k + 1 → z j = 0 := fun z H j hj => by
  have H0 : Hx (Ek E dr k) z 0 := fun a b e => H a b (by
    rcases e with e | ⟨i, hi, e⟩
    · exact Or.inl e
    · exact Or.inr ⟨i, by omega, e⟩)
  rcases (by omega : j < k ∨ j = k) with u | u
  · exact inv z H0 j u
  · rw [u]
    rcases Classical.em (z k = 0) with v | v
    · exact v
    · have f := (ek_iff hk inv).mp ⟨z, H0, v⟩
      have := H (uni k) (dr k) (Or.inr ⟨k, by omega, f, rfl, rfl⟩)
      rw [dot_uni hk, Int.mul_zero] at this
      exact this
theorem ek_step {k : Nat} (f : Fre E k) : ∀ a b, addE (Ek E dr k) (uni k) (dr k) a b ↔ Ek E dr (k + 1) a b := fun a b => by
  constructor
  · rintro ((e | ⟨j, hj, e⟩) | ⟨e1, e2⟩)
    · exact Or.inl e
    · exact Or.inr ⟨j, by omega, e⟩
    · exact Or.inr ⟨k, by omega, f, e1, e2⟩
  · rintro (e | ⟨j, hj, f', e1, e2⟩)
    · exact Or.inl (Or.inl e)
    · rcases (by omega : j < k ∨ j = k) with u | u
      · exact Or.inl (Or.inr ⟨j, u, f', e1, e2⟩)
      · rw [u] at e1 e2; exact Or.inr ⟨e1, e2⟩
theorem ek_skip {k : Nat} (f : ¬ Fre E k) : ∀ a b, Ek E dr k a b ↔ Ek E dr (k + 1) a b := fun a b => by
  constructor
  · rintro (e | ⟨j, hj, e⟩)
    · exact Or.inl e
    · exact Or.inr ⟨j, by omega, e⟩
  · rintro (e | ⟨j, hj, f', e⟩)
    · exact Or.inl e
    · rcases (by omega : j < k ∨ j = k) with u | u
      · exact Or.inr ⟨j, u, f', e⟩
      · rw [u] at f'; exact absurd f' f
theorem ek_sln {k : Nat} {X : Nat → Int} {t : Int} (hk : k ≤ 24) (h0 : t ≠ 0) (H : Hx (Ek E dr k) X t) : Sln E k dr X t := by
  refine ⟨h0, fun a b e => H a b (Or.inl e), fun j hj f => ?_⟩
  have := H (uni j) (dr j) (Or.inr ⟨j, hj, f, rfl, rfl⟩)
  rw [dot_uni (by omega)] at this
  exact this
/-- a fraction as the desk writes it -/
theorem lay_n2 {a b : Int} (h1 : -4611686018427387904 ≤ a ∧ a ≤ 4611686018427387904) (h2 : -4611686018427387904 ≤ b ∧ b ≤ 4611686018427387904) (hb : b ≠ 0) : cond (tst 3 (cmp64 (bop64 109 b (Int.gcd a b : Int)) 0) 0) (bop64 109 a (Int.gcd a b : Int)) (uop 1 (bop64 109 a (Int.gcd a b : Int))) = mN a b := by
  obtain ⟨g1, g2, g3⟩ := gcd_pos (a := a) hb
  have ab := ldiv_b h1.1 h1.2 g1
  rw [ct3, ldvd h1 g1 g2, ldvd h2 g1 g3]
  unfold mN
  obtain ⟨x, ex⟩ := g3
  have eb : b / (Int.gcd a b : Int) = x := by
    have : (Int.gcd a b : Int) * x / (Int.gcd a b : Int) = x := Int.mul_ediv_cancel_left x (by omega)
    rw [← ex] at this; exact this
  rw [eb]
  by_cases z : x < 0
  · have : b < 0 := by rw [ex]; exact Int.mul_neg_of_pos_of_neg g1 z
    rw [if_pos (cmp64_neg.mpr z), if_pos this, neg64 (by omega) (by omega), Int.neg_ediv_of_dvd g2]
  · have : ¬ b < 0 := by
      have := Int.mul_nonneg (a := (Int.gcd a b : Int)) (b := x) (by omega) (by omega)
      omega
    rw [if_neg (fun y => z (cmp64_neg.mp y)), if_neg this]
/-- what the desk's solving told -/
def SolD (B : Nat) (h' : AH) (s nk np : Nat) (isC gk : Nat → Bool) (cs : Nat → Cst) (w dr : Nat → Int) (x : Int) : Prop :=
  (x = 3 ∧ 0 ≤ fstB (flC cs isC gk) nk 0) ∨ (x = 2 ∧ fstB (flC cs isC gk) nk 0 < 0 ∧ ¬ Sat (EqE nk isC cs w)) ∨ (fstB (flC cs isC gk) nk 0 < 0 ∧ Sat (EqE nk isC cs w) ∧ x = (if 0 < cntN (freB (EqE nk isC cs w)) (2 * np) then 1 else 0) ∧ hv h' (B + 65) s = ((cntN (freB (EqE nk isC cs w)) (2 * np) : Nat) : Int) ∧ ∃ X t, Sln (EqE nk isC cs w) (2 * np) dr X t ∧ ∀ k, k < 2 * np → hv h' (B + 66) (24 * s + k) = mN (X k) t ∧ hv h' (B + 67) (24 * s + k) = mD (X k) t)
set_option maxHeartbeats 2000000 in
theorem c_work442 (l : LX B n h) (hd : 410 ≤ d) (hc : ∀ z, z < 37368 → hv h (B + 2) z = c z) (hs : s < 6) (S : SkD c s nk np cs xa xb xc isC dr) (HG : GvD gv B n s nk W cs w isC gk Inv) (i0 : Inv h) (hI : ∀ q q', Inv q → Agr (fun c k => sdW B c k ∨ keW B s c k) q q' → Inv q') (hW : ∀ c k, W c k → ¬ sdW B c k ∧ c ≠ B + 2) :
    Vt 0 (cll PP (ev PP (gsF gv) B) d 442 [(2, rf (B + 56)), (0, (s : Int))] h) (fun x h' => Agr (wkD W B s) h h' ∧ Inv h' ∧ SolD B h' s nk np isC gk cs w dr x) := by
  have C := S.1
  have kn := C.2.1
  obtain ⟨d1, d2, d3, d4⟩ := S.2.1
  have hIs : ∀ q q', Inv q → Agr (sdW B) q q' → Inv q' := fun q q' i g => hI q q' i (g.sub (fun _ _ z => Or.inl z))
  have sk0 : skA s < 23000 := by unfold skA; omega
  have u2 : ∀ j, uop 2 (dr j) = dr j := fun _ => rfl
  have hc_ : ∀ {q : AH}, Agr (wkD W B s) h q → ∀ z, z < 37368 → hv q (B + 2) z = c z := fun {q} g z hz => by
    rw [g.at _ _ (fun u => by
      rcases u with u | u | u
      · exact (hW _ _ u).2 rfl
      · unfold sdW at u; omega
      · unfold keW at u; omega)]
    exact hc z hz
  obtain ⟨E, eE⟩ : ∃ E, E = EqE nk isC cs w := ⟨_, rfl⟩
  refine Vt.inq (D := 409) hd (Nat.le_of_ble_eq_true rfl) rfl (fun d hd Q K => ?_)
  -- the fractions
  have loop4 : ∀ (r j : Nat) (q : AH) (X : Nat → Int) (t : Int) (u6 u7 u8 u9 u10 u11 : AV), j + r = 2 * np → LX B n q → Agr (wkD W B s) h q → Inv q → fstB (flC cs isC gk) nk 0 < 0 → Sat E → hv q (B + 65) s = ((cntN (freB E) (2 * np) : Nat) : Int) → Sln E (2 * np) dr X t → (-4611686018427387904 ≤ t ∧ t ≤ 4611686018427387904) → (∀ k, k < 2 * np → hv q (B + 62) k = X k ∧ -4611686018427387904 ≤ X k ∧ X k ≤ 4611686018427387904) → (∀ k, k < j → hv q (B + 66) (24 * s + k) = mN (X k) t ∧ hv q (B + 67) (24 * s + k) = mD (X k) t) → Ends (ev PP (gsF gv) B d 442 209 [(2, rf (B + 56)), (0, (s : Int)), (0, ((2 * np : Nat) : Int)), (1, t), (9, 0), (0, (j : Int)), u6, u7, u8, u9, u10, u11] [] q) Q := by
    intro r
    induction r with
    | zero =>
      intro j q X t u6 u7 u8 u9 u10 u11 ej lq g iq ff sat e65 sln tb xb ans
      refine Ends.eq (b442_209 (n := n) (by (repeat' first | assumption | refine LX.setF _ _ ?_ (by decide +kernel) | refine LX.setS ?_ rfl | refine LX.setA ?_ (by first | assumption | omega))) (by first | assumption | omega)) ?_
      refine Ends.b3 (fun _ => Ends.g ⟨by omega, by omega⟩ (Ends.sm (K _ _ ⟨g, iq, Or.inr (Or.inr ⟨ff, by rw [← eE]; exact sat, ?_, ?_, X, t, by rw [← eE]; exact sln, fun k hk => ans k (by omega)⟩)⟩))) (fun z => absurd z (by omega))
      · rw [tn, e65, ct5, ← eE]
        by_cases y : 0 < cntN (freB E) (2 * np)
        · rw [if_pos (by omega), if_pos y]
        · rw [if_neg (by omega), if_neg y]
      · rw [← eE]; exact e65
    | succ r ih =>
      intro j q X t u6 u7 u8 u9 u10 u11 ej lq g iq ff sat e65 sln tb xb ans
      obtain ⟨x1, x2⟩ := xb j (by omega)
      refine Ends.eq (b442_209 (n := n) (by (repeat' first | assumption | refine LX.setF _ _ ?_ (by decide +kernel) | refine LX.setS ?_ rfl | refine LX.setA ?_ (by first | assumption | omega))) (by first | assumption | omega)) ?_
      simp only [tn]
      rw [x1]
      refine Ends.b3 (fun z => absurd z (by omega)) (fun _ => Ends.g ⟨by omega, by omega⟩ ?_)
      obtain ⟨gp, -, -⟩ := gcd_pos (a := X j) sln.1
      refine Ends.ct lq (by decide +kernel) (by decide) (c_gcd lq (by omega) x2 tb) (fun y q5 l5 _ _ _ ⟨ey5, eh5⟩ => ?_)
      rw [eh5]
      refine Ends.eq (b442_229 (by decide) lq (by omega)) ?_
      rw [tn, x1, ey5, show bop32 96 (bop32 104 24 (s : Int)) (j : Int) = ((24 * s + j : Nat) : Int) from by
        rw [show bop32 104 24 (s : Int) = ((24 * s : Nat) : Int) from mulNN (x := 24) (by omega)]
        exact addNN (x := 24 * s) (y := j) (by omega), tn, an1, an1, lay_n2 x2 tb sln.1, lay_d tb sln.1, w_succ (by omega)]
      refine Ends.g ⟨by omega, by omega⟩ (Ends.g (by omega) (Ends.g ⟨by omega, by omega⟩ ?_))
      have g66 : Agr (fun c k => sdW B c k ∨ keW B s c k) q (hset (hset q (B + 66) (24 * s + j) (mN (X j) t)) (B + 67) (24 * s + j) (mD (X j) t)) := (Agr.rf.set (Or.inr (Or.inr ⟨Or.inl rfl, by omega, by omega⟩))).set (Or.inr (Or.inr ⟨Or.inr rfl, by omega, by omega⟩))
      refine ih (j + 1) _ X t _ _ _ _ _ _ (by omega) ((lq.setS rfl).setS rfl) (g.tr g66 (fun _ _ z => Or.inr z)) (hI _ _ iq g66) ff sat (by rw [hv_set_ne (by omega), hv_set_ne (by omega)]; exact e65) sln tb (fun k hk => by rw [hv_set_ne (by omega), hv_set_ne (by omega)]; exact xb k hk) (fun k hk => ?_)
      by_cases y : k = j
      · rw [y, hv_set_ne (by omega), hv_set_at, hv_set_at]
        exact ⟨rfl, rfl⟩
      · rw [hv_set_ne (by omega), hv_set_ne (by omega), hv_set_ne (by omega), hv_set_ne (by omega)]
        exact ans k (by omega)
  -- what is drawn
  have loop3 : ∀ (r k : Nat) (q : AH) (u4 u5 u6 u7 u8 u9 u10 u11 : AV), k + r = 2 * np → LX B n q → Agr (wkD W B s) h q → Inv q → fstB (flC cs isC gk) nk 0 < 0 → Sat E → hv q (B + 65) s = ((cntN (freB E) k : Nat) : Int) → EqD B q (2 * np) (Ek E dr k) false → (∀ z, Hx (Ek E dr k) z 0 → ∀ j, j < k → z j = 0) → Ends (ev PP (gsF gv) B d 442 107 [(2, rf (B + 56)), (0, (s : Int)), (0, ((2 * np : Nat) : Int)), (0, (k : Int)), u4, u5, u6, u7, u8, u9, u10, u11] [] q) Q := by
    intro r
    induction r with
    | zero =>
      intro k q u4 u5 u6 u7 u8 u9 u10 u11 ek lq g iq ff sat e65 D inv
      obtain rfl : k = 2 * np := by omega
      refine Ends.eq (b442_107 (n := n) (by (repeat' first | assumption | refine LX.setF _ _ ?_ (by decide +kernel) | refine LX.setS ?_ rfl | refine LX.setA ?_ (by first | assumption | omega))) (by first | assumption | omega)) ?_
      refine Ends.b3 (fun _ => ?_) (fun z => absurd z (Int.lt_irrefl _))
      refine Ends.cv lq (by decide +kernel) (c_solveD lq (by omega) (by omega) D inv) (fun q2 l2 _ _ _ ⟨g2, X, t, t0, tb, HX, q13, v13, an⟩ => ?_)
      have g2s : Agr (sdW B) q q2 := g2.sub (fun c k z => by unfold soW at z; unfold sdW; omega)
      refine Ends.eq (b442_198 (n := n) (by (repeat' first | assumption | refine LX.setF _ _ ?_ (by decide +kernel) | refine LX.setS ?_ rfl | refine LX.setA ?_ (by first | assumption | omega))) (by first | assumption | omega)) ?_
      refine Ends.g q13 ?_
      rw [v13]
      exact loop4 (2 * np) 0 q2 X t _ _ _ _ _ _ (by omega) l2 (g.tr g2s (fun _ _ z => Or.inr (Or.inl z))) (hIs _ _ iq g2s) ff sat (by rw [g2.at _ _ (fun z => by unfold soW at z; omega)]; exact e65) (ek_sln (by omega) t0 HX) tb an (fun k hk => absurd hk (Nat.not_lt_zero k))
    | succ r ih =>
      intro k q u4 u5 u6 u7 u8 u9 u10 u11 ek lq g iq ff sat e65 D inv
      have k24 : k < 24 := by omega
      refine Ends.eq (b442_107 (n := n) (by (repeat' first | assumption | refine LX.setF _ _ ?_ (by decide +kernel) | refine LX.setS ?_ rfl | refine LX.setA ?_ (by first | assumption | omega))) (by first | assumption | omega)) ?_
      refine Ends.b3 (fun z => absurd z (by omega)) (fun _ => ?_)
      refine Ends.cv lq (by decide +kernel) (c_empty132 lq (by omega)) (fun q1 l1 _ _ _ ⟨g1, z1⟩ => ?_)
      have hc1 := hc_ (g.tr g1 (fun c k z => Or.inr (Or.inl (by unfold sdW; omega))))
      have hc2 : ∀ z, z < 37368 → hv (hset q1 (B + 58) k 1) (B + 2) z = c z := fun z hz => by rw [hv_set_ne (by omega)]; exact hc1 z hz
      obtain ⟨p1, p2⟩ := cell_is (i := skA s + 3 + k) hc2 (by omega)
      have next : ∀ (q' : AH) (u4 u5 u6 u7 u8 u9 u10 u11 : AV), LX B n q' → Agr (wkD W B s) h q' → Inv q' → hv q' (B + 65) s = ((cntN (freB E) (k + 1) : Nat) : Int) → EqD B q' (2 * np) (Ek E dr (k + 1)) false → Ends (ev PP (gsF gv) B d 442 185 [(2, rf (B + 56)), (0, (s : Int)), (0, ((2 * np : Nat) : Int)), (0, (k : Int)), u4, u5, u6, u7, u8, u9, u10, u11] [] q') Q := fun q' u4 u5 u6 u7 u8 u9 u10 u11 l' g' i' e' D' => by
        refine Ends.eq (b442_185 (n := n) (by (repeat' first | assumption | refine LX.setF _ _ ?_ (by decide +kernel) | refine LX.setS ?_ rfl | refine LX.setA ?_ (by first | assumption | omega))) (by first | assumption | omega)) ?_
        rw [w_succ (by omega)]
        exact ih (k + 1) q' _ _ _ _ _ _ _ _ (by omega) l' g' i' ff sat e' D' (ek_inv k24 inv)
      refine Ends.eq (b442_119 (n := n) (by (repeat' first | assumption | refine LX.setF _ _ ?_ (by decide +kernel) | refine LX.setS ?_ rfl | refine LX.setA ?_ (by first | assumption | omega))) (by first | assumption | omega)) ?_
      rw [tn, tn, an1, v391_is hs, show bop32 96 (bop32 96 (bop32 96 ((skA s : Nat) : Int) 2) 1) (k : Int) = ((skA s + 3 + k : Nat) : Int) from by
        rw [show bop32 96 ((skA s : Nat) : Int) 2 = ((skA s + 2 : Nat) : Int) from addK (k := 2) (by omega), show bop32 96 ((skA s + 2 : Nat) : Int) 1 = ((skA s + 3 : Nat) : Int) from addK (k := 1) (by omega)]
        exact addNN (x := skA s + 3) (y := k) (by omega), p2, d3 k (by omega), u2, an1]
      refine Ends.g ⟨by omega, by omega⟩ (Ends.g p1 (Ends.g ⟨by omega, by omega⟩ ?_))
      have g2 : Agr (fun c _ => c = B + 58) q (hset (hset q1 (B + 58) k 1) (B + 58) (2 * np) (dr k)) := (g1.set rfl).set rfl
      have l2 : LX B n (hset (hset q1 (B + 58) k 1) (B + 58) (2 * np) (dr k)) := (l1.setS rfl).setS rfl
      have row : ∀ j, j ≤ 2 * np → hv (hset (hset q1 (B + 58) k 1) (B + 58) (2 * np) (dr k)) (B + 58) j = if j = 2 * np then dr k else if j = k then 1 else 0 := fun j hj => by
        by_cases y : j = 2 * np
        · rw [y, hv_set_at, if_pos rfl]
        · rw [hv_set_ne (by omega), if_neg y]
          by_cases y2 : j = k
          · rw [y2, hv_set_at, if_pos rfl]
          · rw [hv_set_ne (by omega), if_neg y2]; exact z1 j (by omega)
      obtain ⟨q2, eq2⟩ : ∃ q2, q2 = hset (hset q1 (B + 58) k 1) (B + 58) (2 * np) (dr k) := ⟨_, rfl⟩
      have e57 : hv q1 (B + 57) 1 = hv q (B + 57) 1 := g1.at _ _ (by omega)
      rw [← eq2] at g2 l2 row ⊢
      rw [e57]
      have g2s : Agr (sdW B) q q2 := g2.sub (fun c k z => by unfold sdW; omega)
      have G2 : Agr (wkD W B s) h q2 := g.tr g2s (fun _ _ z => Or.inr (Or.inl z))
      have I2 := hIs _ _ iq g2s
      have D2 : EqD B q2 (2 * np) (Ek E dr k) false := D.agr g2 (fun c k z u => by unfold eqW at z; omega)
      have e65' : hv q2 (B + 65) s = ((cntN (freB E) k : Nat) : Int) := by rw [g2.at _ _ (by omega)]; exact e65
      obtain ⟨rk, r1, r2, r3⟩ := D.rk (by omega)
      rw [r2]
      have noF : ¬ Fre E k → freB E k = false := fun z => by
        cases e : freB E k
        · rfl
        · exact absurd (freB_iff.mp e) z
      refine Ends.b3 (fun z => ?_) (fun _ => ?_)
      · have nf : ¬ Fre E k := fun f => by
          obtain ⟨x, H, xk⟩ := (ek_iff k24 inv).mpr f
          exact xk (r3 (by omega) x H k (by omega))
        refine next q2 _ _ _ _ _ _ _ _ l2 G2 I2 ?_ (D2.cg (ek_skip nf))
        rw [e65', cntN_s, noF nf]; rfl
      · refine Ends.ct l2 (by decide +kernel) (by decide) (c_isNew413 (i := k) (y := dr k) l2 (by omega) (by omega) D2 (by omega) row (d4 k)) (fun x q3 l3 _ _ _ ⟨g3, b, ex, bi, D3⟩ => ?_)
        have g3s : Agr (sdW B) q2 q3 := g3.sub (fun _ _ z => ad_sd z)
        have G3 : Agr (wkD W B s) h q3 := G2.tr g3s (fun _ _ z => Or.inr (Or.inl z))
        have I3 := hIs _ _ I2 g3s
        have e653 : hv q3 (B + 65) s = ((cntN (freB E) k : Nat) : Int) := by rw [g3.at _ _ (fun z => by unfold adW at z; omega)]; exact e65'
        rw [ek_iff k24 inv] at bi
        refine Ends.eq (b442_172 (n := n) (by (repeat' first | assumption | refine LX.setF _ _ ?_ (by decide +kernel) | refine LX.setS ?_ rfl | refine LX.setA ?_ (by first | assumption | omega))) (by first | assumption | omega)) ?_
        rw [ex]
        cases b
        · have nf : ¬ Fre E k := fun f => absurd (bi.mpr f) Bool.false_ne_true
          rw [if_neg Bool.false_ne_true] at D3
          refine Ends.b0 (fun _ => ?_) (fun z => absurd rfl z)
          refine next q3 _ _ _ _ _ _ _ _ l3 G3 I3 ?_ (D3.cg (ek_skip nf))
          rw [e653, cntN_s, noF nf]; rfl
        · have f := bi.mp rfl
          rw [if_pos rfl] at D3
          refine Ends.b0 (fun z => absurd z (by decide)) (fun _ => Ends.g ⟨by omega, by omega⟩ ?_)
          have cl : cntN (freB E) k ≤ k := cntN_le _ _
          rw [tn, e653, show bop32 96 ((cntN (freB E) k : Nat) : Int) 1 = ((cntN (freB E) k + 1 : Nat) : Int) from addK (k := 1) (by omega), an0]
          have g4 : Agr (fun c k => sdW B c k ∨ keW B s c k) q3 (hset q3 (B + 65) s ((cntN (freB E) k + 1 : Nat) : Int)) := Agr.rf.set (Or.inr (Or.inl ⟨rfl, rfl⟩))
          refine next _ _ _ _ _ _ _ _ _ (l3.setS rfl) (G3.tr g4 (fun _ _ z => Or.inr z)) (hI _ _ I3 g4) ?_ ((D3.cg (ek_step f)).agr (W := fun c _ => c = B + 65) (Agr.rf.set rfl) (fun c k z u => by unfold eqW at z; omega))
          rw [hv_set_at, cntN_s, freB_iff.mpr f]; rfl
  -- the constraints
  have loop2 : ∀ (r k : Nat) (q : AH) (con : Bool) (u4 u5 u6 u7 u8 u9 u10 u11 : AV), k + r = nk → LX B n q → Agr (wkD W B s) h q → Inv q → (∀ i, i < nk → flC cs isC gk i = false) → EqD B q (2 * np) (EqE k isC cs w) con → Ends (ev PP (gsF gv) B d 442 55 [(2, rf (B + 56)), (0, (s : Int)), (0, ((2 * np : Nat) : Int)), (0, (k : Int)), u4, u5, u6, u7, u8, u9, u10, u11] [] q) Q := by
    intro r
    induction r with
    | zero =>
      intro k q con u4 u5 u6 u7 u8 u9 u10 u11 ek lq g iq nf D
      obtain rfl : k = nk := by omega
      obtain ⟨a1, a2⟩ := v394_is (hc_ g) hs C
      have ff : fstB (flC cs isC gk) k 0 < 0 := by rw [fstB_none k 0 (fun i _ hi => nf i (by omega))]; decide
      refine Ends.eq (b442_55 (n := n) (by (repeat' first | assumption | refine LX.setF _ _ ?_ (by decide +kernel) | refine LX.setS ?_ rfl | refine LX.setA ?_ (by first | assumption | omega))) (by first | assumption | omega)) ?_
      rw [a2]
      refine Ends.g a1 (Ends.b3 (fun _ => ?_) (fun z => absurd z (Int.lt_irrefl _)))
      cases con
      · have sat := D.sat (by omega)
        have e57 : hv q (B + 57) 2 = 0 := by obtain ⟨_, _, _, _, _, _, _, _, _, _, _, _, z⟩ := D; exact z
        rw [e57]
        refine Ends.b0 (fun _ => Ends.g ⟨by omega, by omega⟩ ?_) (fun z => absurd rfl z)
        rw [tn, an0]
        have g4 : Agr (fun c k => sdW B c k ∨ keW B s c k) q (hset q (B + 65) s (0 : Int)) := Agr.rf.set (Or.inr (Or.inl ⟨rfl, rfl⟩))
        refine loop3 (2 * np) 0 _ _ _ _ _ _ _ _ _ (by omega) (lq.setS rfl) (g.tr g4 (fun _ _ z => Or.inr z)) (hI _ _ iq g4) ff (by rw [eE]; exact sat) (hv_set_at _ _ _ _) ?_ (fun z _ j hj => absurd hj (Nat.not_lt_zero j))
        rw [eE]
        refine (D.agr (W := fun c _ => c = B + 65) (Agr.rf.set rfl) (fun c k z u => by unfold eqW at z; omega)).cg (fun a b => ⟨fun z => Or.inl z, fun z => ?_⟩)
        rcases z with z | ⟨j, hj, -⟩
        · exact z
        · omega
      · have ns : ¬ Sat (EqE k isC cs w) := by obtain ⟨_, _, _, _, _, _, _, _, _, _, _, z, _⟩ := D; exact z rfl
        have e57 : hv q (B + 57) 2 = 1 := by obtain ⟨_, _, _, _, _, _, _, _, _, _, _, _, z⟩ := D; exact z
        rw [e57]
        exact Ends.b0 (fun z => absurd z (by decide)) (fun _ => Ends.sm (K _ _ ⟨g, iq, Or.inr (Or.inl ⟨rfl, ff, ns⟩)⟩))
    | succ r ih =>
      intro k q con u4 u5 u6 u7 u8 u9 u10 u11 ek lq g iq nf D
      obtain ⟨a1, a2⟩ := v394_is (hc_ g) hs C
      obtain ⟨b1, b2⟩ := v407_is (k := k) (hc_ g) hs C (by omega)
      have next : ∀ (q' : AH) (con' : Bool), LX B n q' → Agr (wkD W B s) h q' → Inv q' → EqD B q' (2 * np) (EqE (k + 1) isC cs w) con' → Ends (ev PP (gsF gv) B d 442 80 [(2, rf (B + 56)), (0, (s : Int)), (0, ((2 * np : Nat) : Int)), (0, (k : Int)), u4, u5, u6, u7, u8, u9, u10, u11] [] q') Q := fun q' con' l' g' i' D' => by
        refine Ends.eq (b442_80 (n := n) (by (repeat' first | assumption | refine LX.setF _ _ ?_ (by decide +kernel) | refine LX.setS ?_ rfl | refine LX.setA ?_ (by first | assumption | omega))) (by first | assumption | omega)) ?_
        rw [w_succ (by omega)]
        exact ih (k + 1) q' con' _ _ _ _ _ _ _ _ (by omega) l' g' i' nf D'
      refine Ends.eq (b442_55 (n := n) (by (repeat' first | assumption | refine LX.setF _ _ ?_ (by decide +kernel) | refine LX.setS ?_ rfl | refine LX.setA ?_ (by first | assumption | omega))) (by first | assumption | omega)) ?_
      rw [a2, b2]
      refine Ends.g a1 (Ends.b3 (fun z => absurd z (by omega)) (fun _ => Ends.g b1 ?_))
      cases ik : isC k
      · refine Ends.b0 (fun _ => ?_) (fun z => absurd rfl z)
        exact next q con lq g iq (D.cg (EqE.skip ik))
      · refine Ends.b0 (fun z => absurd z (by decide)) (fun _ => ?_)
        refine Ends.ct lq (by decide +kernel) (by decide) (c_bringE (sel := isC) lq (by omega) (hc_ g) hs S (by omega) ik ik HG (nf k (by omega)) iq hIs hW D) (fun x q2 l2 _ _ _ ⟨g2, i2, con', D'⟩ => ?_)
        refine Ends.eq (b442_79 (n := n) (by (repeat' first | assumption | refine LX.setF _ _ ?_ (by decide +kernel) | refine LX.setS ?_ rfl | refine LX.setA ?_ (by first | assumption | omega))) (by first | assumption | omega)) ?_
        exact next q2 con' l2 (g.tr g2 (fun _ _ z => br_wk z)) i2 D'
  -- the formulas
  have loop1 : ∀ (r k : Nat) (q : AH) (u3 u4 u5 u6 u7 u8 u9 u10 u11 : AV), k + r = nk → LX B n q → Agr (wkD W B s) h q → Inv q → (∀ i, i < k → flC cs isC gk i = false) → Ends (ev PP (gsF gv) B d 442 2 [(2, rf (B + 56)), (0, (s : Int)), (0, (k : Int)), u3, u4, u5, u6, u7, u8, u9, u10, u11] [] q) Q := by
    intro r
    induction r with
    | zero =>
      intro k q u3 u4 u5 u6 u7 u8 u9 u10 u11 ek lq g iq nf
      obtain ⟨a1, a2⟩ := v394_is (hc_ g) hs C
      obtain ⟨p1, p2⟩ := cell_is (i := skA s + 2) (hc_ g) (by omega)
      refine Ends.eq (b442_2 (n := n) (by (repeat' first | assumption | refine LX.setF _ _ ?_ (by decide +kernel) | refine LX.setS ?_ rfl | refine LX.setA ?_ (by first | assumption | omega))) (by first | assumption | omega)) ?_
      rw [a2]
      refine Ends.g a1 (Ends.b3 (fun _ => ?_) (fun z => absurd z (by omega)))
      unfold q429 v429
      rw [v391_is hs, show bop32 96 ((skA s : Nat) : Int) 2 = ((skA s + 2 : Nat) : Int) from addK (k := 2) (by omega), p2, d1, show bop32 104 2 (np : Int) = ((2 * np : Nat) : Int) from mulNN (x := 2) (by omega)]
      refine Ends.g p1 ?_
      refine Ends.cv lq (by decide +kernel) (c_clear128 (m := 2 * np) lq (by omega)) (fun q2 l2 _ _ _ ⟨g2, D2, _⟩ => ?_)
      have g2s : Agr (sdW B) q q2 := g2.sub (fun c k z => by unfold sdW; omega)
      refine Ends.eq (b442_53 (n := n) (by (repeat' first | assumption | refine LX.setF _ _ ?_ (by decide +kernel) | refine LX.setS ?_ rfl | refine LX.setA ?_ (by first | assumption | omega))) (by first | assumption | omega)) ?_
      refine loop2 nk 0 q2 false _ _ _ _ _ _ _ _ (by omega) l2 (g.tr g2s (fun _ _ z => Or.inr (Or.inl z))) (hIs _ _ iq g2s) (fun i hi => nf i (by omega)) (D2.cg (fun a b => ⟨fun z => z.elim, fun z => ?_⟩))
      obtain ⟨k', i, h1, -⟩ := z
      exact absurd h1 (Nat.not_lt_zero k')
    | succ r ih =>
      intro k q u3 u4 u5 u6 u7 u8 u9 u10 u11 ek lq g iq nf
      obtain ⟨a1, a2⟩ := v394_is (hc_ g) hs C
      obtain ⟨b1, b2⟩ := v407_is (k := k) (hc_ g) hs C (by omega)
      have next : ∀ (q' : AH), LX B n q' → Agr (wkD W B s) h q' → Inv q' → flC cs isC gk k = false → Ends (ev PP (gsF gv) B d 442 31 [(2, rf (B + 56)), (0, (s : Int)), (0, (k : Int)), u3, u4, u5, u6, u7, u8, u9, u10, u11] [] q') Q := fun q' l' g' i' f => by
        refine Ends.eq (b442_31 (n := n) (by (repeat' first | assumption | refine LX.setF _ _ ?_ (by decide +kernel) | refine LX.setS ?_ rfl | refine LX.setA ?_ (by first | assumption | omega))) (by first | assumption | omega)) ?_
        rw [w_succ (by omega)]
        refine ih (k + 1) q' _ _ _ _ _ _ _ _ _ (by omega) l' g' i' (fun i hi => ?_)
        rcases (by omega : i < k ∨ i = k) with u | u
        · exact nf i u
        · rw [u]; exact f
      refine Ends.eq (b442_2 (n := n) (by (repeat' first | assumption | refine LX.setF _ _ ?_ (by decide +kernel) | refine LX.setS ?_ rfl | refine LX.setA ?_ (by first | assumption | omega))) (by first | assumption | omega)) ?_
      rw [a2, b2]
      refine Ends.g a1 (Ends.b3 (fun z => absurd z (by omega)) (fun _ => Ends.g b1 ?_))
      cases ik : isC k
      · refine Ends.b0 (fun _ => ?_) (fun z => absurd rfl z)
        exact next q lq g iq (by unfold flC; rw [ik]; rfl)
      · refine Ends.b0 (fun z => absurd z (by decide)) (fun _ => ?_)
        refine Ends.ct lq (by decide +kernel) (by decide) (c_gives406 lq (by omega) (hc_ g) hs C (by omega) ik HG iq) (fun x q2 l2 _ _ _ ⟨g2, i2, ex⟩ => ?_)
        have G2 : Agr (wkD W B s) h q2 := g.tr g2 (fun _ _ z => Or.inl z)
        have ef : flC cs isC gk k = !(decide (6 ≤ (cs k).1) || gk k) := by
          unfold flC
          rw [ik]
          by_cases u : (cs k).1 ≤ 5
          · rw [decide_eq_true u, decide_eq_false (by omega : ¬ 6 ≤ (cs k).1)]; cases gk k <;> rfl
          · rw [decide_eq_false u, decide_eq_true (by omega : 6 ≤ (cs k).1)]; cases gk k <;> rfl
        refine Ends.eq (b442_26 (n := n) (by (repeat' first | assumption | refine LX.setF _ _ ?_ (by decide +kernel) | refine LX.setS ?_ rfl | refine LX.setA ?_ (by first | assumption | omega))) (by first | assumption | omega)) ?_
        rw [ex]
        cases eg : (decide (6 ≤ (cs k).1) || gk k)
        · refine Ends.b1 (fun z => absurd rfl z) (fun _ => Ends.sm (K _ _ ⟨G2, i2, Or.inl ⟨rfl, ?_⟩⟩))
          rcases (by omega : fstB (flC cs isC gk) nk 0 < 0 ∨ 0 ≤ fstB (flC cs isC gk) nk 0) with u | u
          · have := fstB_neg nk 0 u k (Nat.zero_le k) (by omega)
            rw [ef, eg] at this; cases this
          · exact u
        · exact Ends.b1 (fun _ => next q2 l2 G2 i2 (by rw [ef, eg]; rfl)) (fun z => absurd z (by decide))
  refine Ends.eq (b442_0 (n := n) (by (repeat' first | assumption | refine LX.setF _ _ ?_ (by decide +kernel) | refine LX.setS ?_ rfl | refine LX.setA ?_ (by first | assumption | omega))) (by first | assumption | omega)) ?_
  exact loop1 nk 0 h _ _ _ _ _ _ _ _ _ (by omega) l Agr.rf i0 (fun i hi => absurd hi (Nat.not_lt_zero i))
end WORKD
