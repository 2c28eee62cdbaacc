/-! L3: faces (desk): the faces of a grain -/
noncomputable section FGR
variable {gv : Nat → Int} {B n d : Nat} {h q t : AH} {E : Nat → Bool} {ed : Nat → Nat} {w : Int} {Ww : Nat → Nat → Prop} {WF : Nat → (Nat → Nat) → AH → Prop} {WI : Nat → (Nat → Nat) → Nat → (Nat → Bool) → AH → Prop} {T p : Nat}
theorem Reg.exg {W : Nat → Nat → Prop} (R : Reg B n h) (hb : B + 246 ≤ hnx h) (g : ExG W h t) (hW : ∀ i, i < 39 → ¬ W (B + rgC i) (rgK i)) : Reg B n t ∧ lzy B n t = lzy B n h := R.ext hb (g.ext (c := hnx t - hnx h) (s := hus t - hus h) (by omega) (by have := g.2.2.2; omega)) hW
theorem TbC.exg {W : Nat → Nat → Prop} (m : TbC B h) (hb : B + 246 ≤ hnx h) (g : ExG W h t) (hW : ∀ c k, B + 37 ≤ c → c ≤ B + 46 → ¬ W c k) : TbC B t := m.ext hb (g.ext (c := hnx t - hnx h) (s := hus t - hus h) (by omega) (by have := g.2.2.2; omega)) hW
theorem BsC.exg {W : Nat → Nat → Prop} (m : BsC B h) (hb : B + 246 ≤ hnx h) (g : ExG W h t) (hW : ∀ c k, c = B + 47 ∨ c = B + 48 → ¬ W c k) : BsC B t := fun k s hk hs => by
  have := m k s hk hs
  exact ⟨by rw [g.at _ (by omega) (hW _ _ (Or.inl rfl))]; exact this.1, fun a ha => by rw [g.at _ (by omega) (hW _ _ (Or.inr rfl))]; exact this.2 a ha⟩
/-- a face as a set -/
def FRb (n : Nat) (E : Nat → Bool) (K : Nat) : Nat → Bool := fun k => @decide (FRe n E K k) (Classical.propDecidable _)
theorem FRb_iff {K k : Nat} : FRb n E K k = true ↔ FRe n E K k := by unfold FRb; exact @decide_eq_true_iff _ (Classical.propDecidable _)
theorem cnQ_re {V : Nat → Bool} {K f : Nat} (e : ∀ k, k < 4 * gN n → (V k = true ↔ FRe n E K k)) : cnQ n V f = cnQ n (FRb n E K) f := by
  unfold cnQ
  refine cntN_congr _ (fun k hk => ?_)
  have : V k = FRb n E K k := by rw [Bool.eq_iff_iff, e k hk, FRb_iff]
  rw [this]
theorem kpV_re {V : Nat → Bool} {K j : Nat} (e : ∀ k, k < 4 * gN n → (V k = true ↔ FRe n E K k)) : kpV n V K j = kpV n (FRb n E K) K j := by
  unfold kpV
  rw [cnQ_re e, cnQ_re e, cnQ_re e, cnQ_re e]
/-- what is kept of the faces -/
def FaK (n : Nat) (h : AH) (E : Nat → Bool) (ka : Nat → Nat) (m : Nat) (F : Nat → Nat) : Prop := ∀ i, i < min m 4096 → ∀ j, j < 6 → hv h (ka j) i = kpV n (FRb n E (F i)) (F i) j
/-- what finding faces writes of old cells -/
def FdW (B : Nat) (h : AH) : Nat → Nat → Prop := fun c k => c = B + 82 ∨ nbW B c k ∨ c = B + 83 ∨ (∃ f, f < 4 ∧ hv h (B + 83) f = rf c) ∨ hv h (B + 82) 3 = rf c ∨ ∃ j, j < 6 ∧ hv h (B + 82) (7 + j) = rf c
/-- faces that begin below place p are found -/
def FnI (B n : Nat) (h : AH) (E : Nat → Bool) (ed : Nat → Nat) (w : Int) (Ww : Nat → Nat → Prop) (WF : Nat → (Nat → Nat) → AH → Prop) (T : Nat) (q : AH) (p m : Nat) (F : Nat → Nat) (V : Nat → Bool) (pc cap : Nat) (ka : Nat → Nat) (kc : Nat) : Prop :=
  (LX B n q ∧ ExG (fun c k => FdW B h c k ∨ Ww c k) h q ∧ TbC B q ∧ BsC B q ∧ hv q (B + 36) 17 = 1 ∧ Reg B n q) ∧
  (FcE B n q ed (fun k => E k && !V k) ∧ PlS B q pc cap 0 ∧ (hnx h ≤ pc ∨ hv h (B + 82) 3 = rf pc) ∧ KpA B q ka kc ∧ (∀ j, j < 6 → (hnx h ≤ ka j ∨ hv h (B + 82) (7 + j) = rf (ka j)) ∧ ka j ≠ pc)) ∧
  (FcL n E p m F ∧ Fsn n E V p ∧ hv q (B + 82) 5 = (m : Int) ∧ hv q (B + 82) 6 = ((min m 4096 : Nat) : Int) ∧ min m 4096 ≤ kc ∧ FaK n q E ka m F) ∧
  hv q (B + 82) 16 = w ∧ hus q + lzy B n q + (32768 - 2 * cap) + 6 * (8192 - 2 * kc) = T ∧ cel h q ∧ WF m F q
def FnE (B n : Nat) (h : AH) (E : Nat → Bool) (ed : Nat → Nat) (w : Int) (Ww : Nat → Nat → Prop) (WF : Nat → (Nat → Nat) → AH → Prop) (T : Nat) (q : AH) (p : Nat) : Prop := ∃ m F V pc cap ka kc, FnI B n h E ed w Ww WF T q p m F V pc cap ka kc
theorem FnE.skip {p' : Nat} (i : FnE B n h E ed w Ww WF T q p) (hp : p ≤ p') (no : ∀ V, Fsn n E V p → ∀ k, k < 4 * gN n → E k = true → p ≤ fpo n k → fpo n k < p' → ∃ x, x < 4 * gN n ∧ FRe n E k x ∧ fpo n x < p) : FnE B n h E ed w Ww WF T q p' := by
  obtain ⟨m, F, V, pc, cap, ka, kc, i1, i2, ⟨i3, i4, i5⟩, i6⟩ := i
  have nn := no V i4
  exact ⟨m, F, V, pc, cap, ka, kc, i1, i2, ⟨i3.skip hp nn, i4.skip hp nn, i5⟩, i6⟩
theorem Wat.mono {E' : Nat → Bool} {K : Nat} {face : Int} {WJ : (Nat → Bool) → AH → Prop} (a : Wat gv B n E K w face Ww WJ) (e : ∀ x, FRe n E' K x → FRe n E K x) : Wat gv B n E' K w face Ww WJ := by
  rcases a with a | ⟨c, j, a1, a2, a3, a4, a5, a6, a7⟩
  · exact Or.inl a
  · exact Or.inr ⟨c, j, a1, a2, a3, a4, a5, a6, fun d hd V K q l wi hK hV r => a7 d hd V K q l wi hK hV (e K r)⟩
/-- what an onlooker keeps to -/
def WOk0 (gv : Nat → Int) (B n : Nat) (h : AH) (E : Nat → Bool) (w : Int) (Ww : Nat → Nat → Prop) (WF : Nat → (Nat → Nat) → AH → Prop) (WI : Nat → (Nat → Nat) → Nat → (Nat → Bool) → AH → Prop) : Prop :=
  (∀ (m : Nat) F K, Fst n E K → Wat gv B n E K w (m : Int) Ww (WI m F K)) ∧ (∀ m F K q, Fst n E K → (∀ i, i < m → ¬ FRe n E (F i) K) → WF m F q → WI m F K (fun _ => false) q) ∧ (∀ m F K V q, Fst n E K → (∀ k, k < 4 * gN n → (V k = true ↔ FRe n E K k)) → WI m F K V q → WF (m + 1) (fun i => if i = m then K else F i) q) ∧
  (∀ m F K V q q', WI m F K V q → (∀ c k, c < hnx h → ¬ FdW B h c k → hv q' c k = hv q c k) → (∀ c, c < hnx h → hk q' c = hk q c) → WI m F K V q') ∧
  (∀ m F q q', WF m F q → (∀ c k, c < hnx h → ¬ FdW B h c k → hv q' c k = hv q c k) → (∀ c, c < hnx h → hk q' c = hk q c) → WF m F q') ∧
  (∀ c k, Ww c k → c < hnx h ∧ ¬ FdW B h c k ∧ ¬ (B + 36 ≤ c ∧ c ≤ B + 50) ∧ (∀ i, i < 39 → ¬ (c = B + rgC i ∧ k = rgK i)) ∧ c ≠ B + 91)
def WOk (gv : Nat → Int) (B n : Nat) (h : AH) (E : Nat → Bool) (ed : Nat → Nat) (w : Int) (Ww : Nat → Nat → Prop) (WF : Nat → (Nat → Nat) → AH → Prop) (WI : Nat → (Nat → Nat) → Nat → (Nat → Bool) → AH → Prop) : Prop := WOk0 gv B n h E w Ww WF WI ∧ (∀ f, f < 4 → hnx h ≤ ed f ∨ hv h (B + 83) f = rf (ed f)) ∧ B + 246 ≤ hnx h
theorem mn_ge {m : Nat} (h : (4096 : Int) ≤ ((min m 4096 : Nat) : Int)) : 4096 ≤ m := Nat.le_trans (Int.ofNat_le.mp h) (Nat.min_le_left _ _)
theorem mn_lt {m : Nat} (h : ¬ (4096 : Int) ≤ ((min m 4096 : Nat) : Int)) : m < 4096 := Nat.lt_of_not_le (fun w => h (by rw [Nat.min_eq_right w]; exact Int.le_refl _))
theorem FcL.le {m : Nat} {F : Nat → Nat} (u : FcL n E p m F) : m ≤ 4 * gN n := by
  have := cntN_inj (D := fun _ => true) (f := F) (M := m) (N := 4 * gN n) (fun i hi _ => (u.1 i hi).1.1) (fun i j hi hj _ _ e => by
    rcases (by omega : i < j ∨ i = j ∨ j < i) with z | z | z
    · have := u.2.1 i j z hj; rw [e] at this; omega
    · exact z
    · have := u.2.1 j i z hi; rw [e] at this; omega)
  rw [cnt_tt] at this
  exact this
set_option maxHeartbeats 4000000 in
theorem c_grain163 {x y z t : Nat} (hd : 26 ≤ d) (hn : n ≤ 52) (hx : x < n) (hy : y < n) (hz : z < n) (ht : t < 24) (ok : WOk gv B n h E ed w Ww WF WI) (i : FnE B n h E ed w Ww WF T q (4 * rkS n (gI n x y z t))) :
    Vd (cll PP (ev PP (gsF gv) B) d 163 [(2, rf (B + 82)), (0, (t : Int)), (0, (x : Int)), (0, (y : Int)), (0, (z : Int))] q) (fun q' => FnE B n h E ed w Ww WF T q' (4 * rkS n (gI n x y z t) + 4)) := by
  obtain ⟨⟨ok1, ok2, ok3, ok4, ok5, ok6⟩, ok7, hb⟩ := ok
  have hG := gN_le hn
  have hN := rows_le hn
  have hn0 : 0 < n := by omega
  have hg := gI_lt hx hy hz ht
  obtain ⟨g, eg⟩ : ∃ g, g = gI n x y z t := ⟨_, rfl⟩
  rw [← eg] at i hg ⊢
  have r1 := rw3_lt ht hz hy
  have gx : gX n g = x := by rw [eg]; exact gX_I hx ht
  have gy : gY n g = y := by rw [eg]; exact gY_I hx hy ht
  have gz : gZ n g = z := by rw [eg]; exact gZ_I hx hy ht
  have gt : gSo g = t := by rw [eg]; exact gSo_I ht
  have rkg : rk n g = rw3 n t z y := by rw [eg]; exact rk_at ht hy hx
  refine Vd.inq (D := 25) hd (Nat.le_of_ble_eq_true rfl) rfl (fun d hd Q KK => ?_)
  have key : ∀ (r f : Nat) (q : AH), f + r = 4 → FnE B n h E ed w Ww WF T q (4 * rkS n g + f) → Ends (ev PP (gsF gv) B d 163 16 [(2, rf (B + 82)), (0, (t : Int)), (0, (x : Int)), (0, (y : Int)), (0, (z : Int)), (0, ((rw3 n t z y : Nat) : Int)), (0, (f : Int))] [] q) Q := by
    intro r
    induction r with
    | zero =>
      intro f q ef i
      obtain rfl : f = 4 := by omega
      have lq : LX B n q := by obtain ⟨m, F, V, pc, cap, ka, kc, i1, -⟩ := i; exact i1.1
      exact Ends.eq (b163_16 lq (by omega)) (Ends.b3 (fun _ => Ends.sm (KK _ i)) (fun z => absurd z (by decide)))
    | succ r ih =>
      intro f q ef i
      have hf : f < 4 := by omega
      have next : ∀ q, FnE B n h E ed w Ww WF T q (4 * rkS n g + f + 1) → Ends (ev PP (gsF gv) B d 163 94 [(2, rf (B + 82)), (0, (t : Int)), (0, (x : Int)), (0, (y : Int)), (0, (z : Int)), (0, ((rw3 n t z y : Nat) : Int)), (0, (f : Int))] [] q) Q := fun q i => by
        have lq : LX B n q := by obtain ⟨m, F, V, pc, cap, ka, kc, i1, -⟩ := i; exact i1.1
        refine Ends.eq (b163_94 lq (by omega)) ?_
        rw [w_succ (by omega)]
        exact ih (f + 1) q (by omega) i
      have i0 := i
      obtain ⟨m, F, V, pc, cap, ka, kc, ⟨lq, X, mq, bq, q17, Rq⟩, ⟨Fq, Pq, pO, Kq, kO⟩, ⟨L, Sn, q5, q6, mk, ct⟩, q16, rm, ce, wf⟩ := i
      obtain ⟨K, eK⟩ : ∃ K, K = 4 * g + f := ⟨_, rfl⟩
      have K4 : K / 4 = g := by omega
      have Kf : K % 4 = f := by omega
      have hK : K < 4 * gN n := by omega
      have fK : fpo n K = 4 * rkS n g + f := by unfold fpo; rw [K4, Kf]
      obtain ⟨f1, f2, f3, f4⟩ := Fq.1 f hf
      have kf : hk q (ed f) = (3, 24 * n * n) := f4.1
      have nq := X.2.2.1
      have edn : ∀ f, f < 4 → ed f ≠ pc := fun f hf e => by
        have a := (Fq.1 f hf).2.2.2.1
        have b := Pq.2.2.1
        rw [e, b] at a
        exact absurd (show (2 : Nat) = 3 from congrArg Prod.fst a) (by decide)
      have edk : ∀ f j, f < 4 → j < 6 → ed f ≠ ka j := fun f j hf hj e => by
        have a := (Fq.1 f hf).2.2.2.1
        have b := (Kq.1 j hj).2.1
        rw [e, b] at a
        exact absurd (show (2 : Nat) = 3 from congrArg Prod.fst a) (by decide)
      refine Ends.eq (b163_16 lq (by omega)) (Ends.b3 (fun z => absurd z (by omega)) (fun _ => ?_))
      rw [tn, f1, ad_rf, kf, tn]
      refine Ends.g ⟨by omega, by omega⟩ (Ends.g ⟨rf_pos _, rfl, by omega, by show _ < ((24 * n * n : Nat) : Int); omega⟩ ?_)
      rw [bit_is _ (by omega), f4.bit ht hz hy (by omega), decide_eq_true hx, Bool.true_and, ← eg, ← eK]
      dsimp only
      by_cases hE' : (E K && !V K) = true
      case neg =>
        -- nothing new
        rw [if_neg hE']
        have hE' : (E K && !V K) = false := Bool.eq_false_iff.mpr hE'
        refine Ends.b1 (fun z => (z rfl).elim) (fun _ => next q (i0.skip (Nat.le_succ _) (fun V' sn k hk hE h1 h2 => ?_)))
        have : k = K := fpo_inj hk hK (by omega)
        rw [this] at hE ⊢
        rw [hE, Bool.true_and, Bool.not_eq_false'] at hE'
        exact ((Sn K hK).mp hE').2
      · rw [if_pos hE']
        refine Ends.b1 (fun _ => ?_) (fun z => absurd z (by decide))
        rw [Bool.and_eq_true, Bool.not_eq_true'] at hE'
        obtain ⟨hE, hV⟩ := hE'
        have fst := Sn.first hK hE fK hV
        have left : ∀ {b}, FRe n (fun k => E k && !V k) K b ↔ FRe n E K b := fun {b} => FRe.left Sn.cl (fun x _ => by rw [Bool.and_eq_true, Bool.not_eq_true']) hK hE hV
        have ecd : v159 n (t : Int) (f : Int) (x : Int) (y : Int) (z : Int) = (cdN n K : Int) := by rw [cd_at hn ht hf hx hy hz, ← eg, ← eK]
        rw [ecd, q5]
        clear ecd
        have old : ∀ c k, c < hnx h → fcW B ed pc c k → FdW B h c k := fun c k hc z => by
          rcases z with z | ⟨f, hf, z⟩ | z
          · exact Or.inl z.1
          · rcases ok7 f hf with y | y
            · omega
            · exact Or.inr (Or.inr (Or.inr (Or.inl ⟨f, hf, by rw [z]; exact y⟩)))
          · rcases pO with y | y
            · omega
            · exact Or.inr (Or.inr (Or.inr (Or.inr (Or.inl (by rw [z]; exact y)))))
        have wwq : ∀ c k, Ww c k → c < hnx q ∧ c ≠ B + 82 ∧ c ≠ B + 83 ∧ ¬ (B + 36 ≤ c ∧ c ≤ B + 48) ∧ (∀ f, f < 4 → c ≠ ed f) ∧ c ≠ pc := fun c k z => by
          obtain ⟨a1, a2, a3, -⟩ := ok6 c k z
          refine ⟨by omega, fun e => a2 (Or.inl e), fun e => a2 (Or.inr (Or.inr (Or.inl e))), by omega, fun f hf e => a2 (old c k a1 (Or.inr (Or.inl ⟨f, hf, e⟩))), fun e => a2 (old c k a1 (Or.inr (Or.inr e)))⟩
        have wka : ∀ c k j, j < 6 → Ww c k → c ≠ ka j := fun c k j hj z e => by
          obtain ⟨a1, a2, -, -⟩ := ok6 c k z
          rcases (kO j hj).1 with y | y
          · omega
          · exact a2 (Or.inr (Or.inr (Or.inr (Or.inr (Or.inr ⟨j, hj, by rw [e]; exact y⟩)))))
        refine Ends.cv lq (by decide +kernel) (c_trace170 (WI := WI m F K) lq (by omega) hn mq bq Fq Pq edn hK (by rw [hE, hV]; rfl) q16 ((ok1 m F K fst).mono (fun x r => left.mp r)) (ok2 m F K q fst (fun i hi r => by
          have := (Sn K hK).mpr ⟨hE, F i, (L.1 i hi).1.1, r.sym (L.1 i hi).1.1 (L.1 i hi).1.2.1, (L.1 i hi).2⟩
          rw [hV] at this
          exact absurd this (by decide)) wf) wwq (fun V a b wi h1 h2 => ok4 m F K V a b wi (fun c k hc z => h1 c k (by omega) (fun y => z (old c k hc y))) (fun c hc => h2 c (by omega)))) (fun q1 l1 _ _ _ ⟨V1, pc1, cap1, v1, F1, P1, o1, C1, rm1, ce1, X1, wi1⟩ => ?_)
        have v1' : ∀ k, k < 4 * gN n → (V1 k = true ↔ FRe n E K k) := fun k hk => by rw [v1 k hk, left]
        have wf1 := ok3 m F K V1 q1 fst v1' wi1
        have hbq := lq.2.2
        have nW : ∀ c k, B + 246 > c → c ≠ B + 82 → c ≠ B + 84 → ¬ Ww c k → ¬ (fcW B ed pc c k ∨ Ww c k) := fun c k h1 h2 h3 h4 z => by
          rcases z with (z | ⟨f, hf, z⟩ | z) | z
          · omega
          · have := (Fq.1 f hf).2.1; omega
          · have := Pq.2.2.2.1; omega
          · exact h4 z
        have noWw : ∀ c k, B + 36 ≤ c → c ≤ B + 50 → ¬ Ww c k := fun c k h1 h2 z => by have := (ok6 c k z).2.2.1; omega
        obtain ⟨R1, L1⟩ := Rq.exg hbq X1 (fun i hi => nW _ _ (by have : rgC i < 149 := (rgC_lt ⟨i, hi⟩).1; omega) (by have := rgi hi; omega) (by have := rgi hi; omega) (fun z => (ok6 _ _ z).2.2.2.1 i hi ⟨rfl, rfl⟩))
        have m1 : TbC B q1 := mq.exg hbq X1 (fun c k h1 h2 => nW c k (by omega) (by omega) (by omega) (noWw c k (by omega) (by omega)))
        have b1 : BsC B q1 := bq.exg hbq X1 (fun c k h1 => nW c k (by omega) (by omega) (by omega) (noWw c k (by omega) (by omega)))
        have q17' : hv q1 (B + 36) 17 = 1 := by rw [X1.at _ (by omega) (nW _ _ (by omega) (by omega) (by omega) (noWw _ _ (by omega) (by omega)))]; exact q17
        have XX1 : ExG (fun c k => FdW B h c k ∨ Ww c k) h q1 := X.tr X1 (fun c k hc z => z.imp (old c k hc) id)
        have f82 : ∀ k, k ≠ 3 → k ≠ 4 → k ≠ 13 → k ≠ 14 → k ≠ 15 → hv q1 (B + 82) k = hv q (B + 82) k := fun k h1 h2 h3 h4 h5 => X1.at k (by omega) (fun z => by
          rcases z with (z | ⟨f, hf, z⟩ | z) | z
          · omega
          · have := (Fq.1 f hf).2.1; omega
          · have := Pq.2.2.2.1; omega
          · exact (wwq _ _ z).2.1 rfl)
        have nka : ∀ j k, j < 6 → hv q1 (ka j) k = hv q (ka j) k := fun j k hj => X1.at k (Kq.1 j hj).2.2.2 (fun z => by
          have := (Kq.1 j hj).2.2.1
          rcases z with (z | ⟨f, hf, z⟩ | z) | z
          · omega
          · exact edk f j hf hj z.symm
          · exact (kO j hj).2 z
          · exact wka _ _ j hj z rfl)
        have K1 : KpA B q1 ka kc := ⟨fun j hj => by
          obtain ⟨a1, a2, a3, a4⟩ := Kq.1 j hj
          exact ⟨by rw [f82 _ (by omega) (by omega) (by omega) (by omega) (by omega)]; exact a1, by rw [X1.hk a4]; exact a2, a3, by have := X1.2.2.1; omega⟩, Kq.2⟩
        have q5' : hv q1 (B + 82) 5 = (m : Int) := by rw [f82 _ (by decide) (by decide) (by decide) (by decide) (by decide)]; exact q5
        have q6' : hv q1 (B + 82) 6 = ((min m 4096 : Nat) : Int) := by rw [f82 _ (by decide) (by decide) (by decide) (by decide) (by decide)]; exact q6
        have q16' : hv q1 (B + 82) 16 = w := by rw [f82 _ (by decide) (by decide) (by decide) (by decide) (by decide)]; exact q16
        have pO1 : hnx h ≤ pc1 ∨ hv h (B + 82) 3 = rf pc1 := by
          rcases o1 with y | y
          · rw [y]; exact pO
          · exact Or.inl (by omega)
        have kp1 : ∀ j, j < 6 → ka j ≠ pc1 := fun j hj e => by
          rcases o1 with y | y
          · exact (kO j hj).2 (e.trans y)
          · have := (Kq.1 j hj).2.2.2; omega
        have Sn1 : Fsn n E (fun k => V k || V1 k) (4 * rkS n g + f + 1) := Sn.put hK hE fK (fun x hx => by rw [Bool.or_eq_true, v1' x hx])
        have Fl1 := L.put fst fK
        have F1' : FcE B n q1 ed (fun k => E k && !(V k || V1 k)) := F1.congr (fun k _ => by
          show (E k && !V k && !V1 k) = (E k && !(V k || V1 k))
          cases E k <;> cases V k <;> cases V1 k <;> rfl)
        have mle := Fl1.le
        have rm1' : hus q1 + (32768 - 2 * cap1) = hus q + (32768 - 2 * cap) := rm1
        refine Ends.eq (b163_63 l1 (by omega)) ?_
        rw [q6']
        -- at last
        have fin : ∀ (q2 : AH) (ka2 : Nat → Nat) (kc2 : Nat), LX B n q2 → ExG (kfW B ka) q1 q2 → KpA B q2 ka2 kc2 → (∀ j, j < 6 → (hnx h ≤ ka2 j ∨ hv h (B + 82) (7 + j) = rf (ka2 j)) ∧ ka2 j ≠ pc1) → hv q2 (B + 82) 6 = ((min (m + 1) 4096 : Nat) : Int) → min (m + 1) 4096 ≤ kc2 → FaK n q2 E ka2 (m + 1) (fun i => if i = m then K else F i) → hus q2 + 6 * (8192 - 2 * kc2) = hus q1 + 6 * (8192 - 2 * kc) → cel q1 q2 → Ends (ev PP (gsF gv) B d 163 84 [(2, rf (B + 82)), (0, (t : Int)), (0, (x : Int)), (0, (y : Int)), (0, (z : Int)), (0, ((rw3 n t z y : Nat) : Int)), (0, (f : Int))] [] q2) Q := by
          intro q2 ka2 kc2 l2 X2 K2 kO2 q62 mk2 ct2 rm2 ce2
          have hb1 := l1.2.2
          have kW : ∀ c k, kfW B ka c k → (c = B + 82 ∧ 6 ≤ k ∧ k ≤ 12) ∨ B + 85 ≤ c ∨ c = B + 49 := fun c k z => by
            rcases z with z | ⟨j, hj, z⟩ | z
            · exact Or.inl z
            · have := (Kq.1 j hj).2.2.1; omega
            · omega
          have kF : ∀ c k, c < hnx h → kfW B ka c k → FdW B h c k := fun c k hc z => by
            rcases z with z | ⟨j, hj, z⟩ | z
            · exact Or.inl z.1
            · rcases (kO j hj).1 with y | y
              · omega
              · exact Or.inr (Or.inr (Or.inr (Or.inr (Or.inr ⟨j, hj, by rw [z]; exact y⟩))))
            · exact Or.inr (Or.inl (Or.inr (by omega)))
          refine Ends.eq (b163_84 l2 (by omega)) ?_
          have q52 : hv q2 (B + 82) 5 = (m : Int) := by rw [X2.at _ (by omega) (fun z => by have := kW _ _ z; omega)]; exact q5'
          rw [q52, show bop32 96 (m : Int) 1 = ((m + 1 : Nat) : Int) from addNN (y := 1) (by omega)]
          have G3 : Agr (fun c k => c = B + 82 ∧ k = 5) q2 (hset q2 (B + 82) 5 ((m + 1 : Nat) : Int)) := Agr.rf.set ⟨rfl, rfl⟩
          have l3 : LX B n (hset q2 (B + 82) 5 ((m + 1 : Nat) : Int)) := LX.setF 82 5 l2 (by decide +kernel)
          have v3 : hv (hset q2 (B + 82) 5 ((m + 1 : Nat) : Int)) (B + 82) 5 = ((m + 1 : Nat) : Int) := hv_set_at ..
          generalize hset q2 (B + 82) 5 ((m + 1 : Nat) : Int) = q3 at *
          have X3 : ExG (fun c k => kfW B ka c k ∨ (c = B + 82 ∧ k = 5)) q1 q3 := (X2.sub (fun _ _ _ z => Or.inl z)).tr G3.ext.exg (fun _ _ _ z => Or.inr z)
          have nW3 : ∀ c k, B + 246 > c → c ≠ B + 82 → ¬ (B + 85 ≤ c ∧ c < B + 91) → c ≠ B + 49 → ¬ (kfW B ka c k ∨ (c = B + 82 ∧ k = 5)) := fun c k h1 h2 h3 h4 z => by
            rcases z with (z | ⟨j, hj, z⟩ | z) | z
            · omega
            · have := (Kq.1 j hj).2.2.1; omega
            · omega
            · omega
          obtain ⟨R3, L3⟩ := R1.exg hb1 X3 (fun i hi => nW3 _ _ (by have : rgC i < 149 := (rgC_lt ⟨i, hi⟩).1; omega) (by have := rgi hi; omega) (by have := rgi hi; omega) (by have := rgi hi; omega))
          have e82 : ∀ k, (k < 5 ∨ 12 < k) → hv q3 (B + 82) k = hv q1 (B + 82) k := fun k hk => X3.at k (by omega) (fun z => by
            rcases z with z | z
            · have := kW _ _ z; omega
            · omega)
          obtain ⟨p1, p2, p3, p4, p5, p6, p7⟩ := P1
          have hq3 : hus q3 = hus q2 := G3.us
          refine next q3 ⟨m + 1, _, _, pc1, cap1, ka2, kc2, ⟨l3, XX1.tr X3 (fun c k hc z => ?_), m1.exg hb1 X3 (fun c k h1 h2 => nW3 c k (by omega) (by omega) (by omega) (by omega)), b1.exg hb1 X3 (fun c k h1 => nW3 c k (by omega) (by omega) (by omega) (by omega)), by rw [X3.at _ (by omega) (nW3 _ _ (by omega) (by omega) (by omega) (by omega))]; exact q17', R3⟩, ⟨F1'.exg hb1 X3 (fun f hf => nW3 _ _ (by omega) (by omega) (by omega) (by omega)) (fun f k hf z => ?_), ⟨by rw [e82 _ (by omega)]; exact p1, by rw [e82 _ (by omega)]; exact p2, by rw [X3.hk p5]; exact p3, p4, by have := X3.2.2.1; omega, p6, p7⟩, pO1, ⟨fun j hj => ?_, K2.2⟩, kO2⟩, ⟨Fl1, Sn1, v3, by rw [G3.at _ _ (by omega)]; exact q62, mk2, fun i hi j hj => ?_⟩, by rw [e82 _ (by omega)]; exact q16', by omega, (ce.tr ce1).tr (ce2.tr (cel.agr G3)), ok5 _ _ q1 q3 wf1 (fun c k hc z => X3.at k (by omega) (fun y => z ?_)) (fun c hc => X3.hk (by omega))⟩
          · rcases z with z | z
            · exact Or.inl (kF c k hc z)
            · exact Or.inl (Or.inl z.1)
          · have := (Fq.1 f hf).2.1
            rcases z with (z | ⟨j, hj, z⟩ | z) | z
            · omega
            · exact edk f j hf hj z
            · omega
            · omega
          · obtain ⟨a1, a2, a3, a4⟩ := K2.1 j hj
            exact ⟨by rw [G3.at _ _ (by omega)]; exact a1, by rw [G3.hk]; exact a2, a3, by rw [G3.nx]; exact a4⟩
          · have := (K2.1 j hj).2.2.1
            rw [G3.at _ _ (by omega)]
            exact ct2 i hi j hj
          · rcases y with y | y
            · exact kF c k hc y
            · exact Or.inl y.1
        refine Ends.b3 (fun z6 => ?_) (fun z6 => ?_)
        · have hm := mn_ge z6
          have e1 : ∀ _ : Unit, min m 4096 = 4096 := fun _ => Nat.min_eq_right hm
          have e2 : ∀ _ : Unit, min (m + 1) 4096 = 4096 := fun _ => Nat.min_eq_right (Nat.le_succ_of_le hm)
          clear z6
          rw [e1 ()] at q6 q6' mk
          rw [e2 ()] at fin
          refine fin q1 ka kc l1 ExG.rf K1 (fun j hj => ⟨(kO j hj).1, kp1 j hj⟩) q6' mk (fun i hi j hj => ?_) rfl cel.rf
          show hv q1 (ka j) i = kpV n (FRb n E (if i = m then K else F i)) (if i = m then K else F i) j
          rw [e2 ()] at hi
          rw [if_neg (by omega), nka j i hj]
          exact ct i (by rw [e1 ()]; exact hi) j hj
        · have hm := mn_lt (Int.not_le.mpr z6)
          have e1 : ∀ _ : Unit, min m 4096 = m := fun _ => Nat.min_eq_left (Nat.le_of_lt hm)
          have e2 : ∀ _ : Unit, min (m + 1) 4096 = m + 1 := fun _ => Nat.min_eq_left hm
          clear z6
          rw [e1 ()] at q6 q6' mk
          rw [e2 ()] at fin
          have hc := c_keep164 (gv := gv) (d := d) (K := K) (V := V1) l1 (by omega) hn m1 K1 q6' mk (by omega) hK C1
          rw [K4, Kf, gx, gy, gz, gt] at hc
          refine Ends.cv l1 (by decide +kernel) hc (fun q2 l2 _ _ _ ⟨ka2, kc2, K2, mk2, q62, ct2, rm2, ce2, X2⟩ => ?_)
          refine fin q2 ka2 kc2 l2 X2 K2 (fun j hj => ?_) q62 mk2 (fun i hi j hj => ?_) rm2 ce2
          · have nq1 := X1.2.2.1
            rcases (ct2 j hj).1 with y | y
            · rw [y]; exact ⟨(kO j hj).1, kp1 j hj⟩
            · exact ⟨Or.inl (by omega), by have := P1.2.2.2.2.1; omega⟩
          · show hv q2 (ka2 j) i = kpV n (FRb n E (if i = m then K else F i)) (if i = m then K else F i) j
            rw [e2 ()] at hi
            by_cases ei : i = m
            · rw [ei, if_pos rfl, (ct2 j hj).2.2, kpV_re v1']
            · rw [if_neg ei, (ct2 j hj).2.1 i (by omega), nka j i hj]
              exact ct i (by rw [e1 ()]; omega) j hj
  have lq : LX B n q := by obtain ⟨m, F, V, pc, cap, ka, kc, i1, -⟩ := i; exact i1.1
  refine Ends.eq (b163_0 lq (by omega)) ?_
  rw [row_eq hn ht hz hy]
  exact key 4 0 q rfl i
end FGR
