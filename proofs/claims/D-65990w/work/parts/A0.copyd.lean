/-! L3: the model's designs: a design copied -/
/-- where a design holds references to its own cells -/
def ptr (q : Nat) : Nat → Nat → Prop := fun c k => (c = q ∧ 6 ≤ k) ∨ c = q + 5 ∨ c = q + 6 ∨ (∃ s, s < 6 ∧ c = q + (8 + 14 * s) ∧ 6 ≤ k) ∨ ∃ f, f < 24 ∧ c = q + (92 + 2 * f) ∧ 5 ≤ k
/-- what a design says -/
def dW (q : Nat) : Nat → Nat → Prop := fun c k => q ≤ c ∧ c < q + 140 ∧ ¬ ptr q c k
def cfW (f1 : Nat) : Nat → Nat → Prop := fun c k => (c = f1 ∧ k < 5) ∨ c = f1 + 1
theorem YD.agr {B q : Nat} {h t : AH} {W : Nat → Nat → Prop} (y : YD B q h) (g : Agr W h t) (hW : ∀ c k, ptr q c k → ¬ W c k) : YD B q t := by
  obtain ⟨⟨a1, a2⟩, b, ⟨c1, c2, c3, c4, c5, c6, c7⟩, e, f⟩ := y
  have P0 : ∀ k, 6 ≤ k → hv t q k = hv h q k := fun k hk => g.at _ _ (hW _ _ (Or.inl ⟨rfl, hk⟩))
  refine ⟨⟨by rw [g.hk]; exact a1, a2⟩, by simp only [g.hk]; exact b, ⟨by rw [P0 6 (by decide)]; exact c1, by rw [P0 7 (by decide)]; exact c2, by rw [P0 8 (by decide)]; exact c3, by rw [P0 9 (by decide)]; exact c4, by rw [P0 10 (by decide)]; exact c5, by rw [P0 11 (by decide)]; exact c6, by rw [P0 12 (by decide)]; exact c7⟩, fun s hs => ?_, fun s hs => ?_⟩
  · obtain ⟨e1, e2⟩ := e s hs
    exact ⟨e1.agr g (fun k hk => hW _ _ (Or.inr (Or.inr (Or.inr (Or.inl ⟨s, hs, rfl, hk⟩))))), by rw [g.at _ _ (hW _ _ (Or.inr (Or.inl rfl)))]; exact e2⟩
  · obtain ⟨e1, e2⟩ := f s hs
    exact ⟨e1.agr g (hW _ _ (Or.inr (Or.inr (Or.inr (Or.inr ⟨s, hs, rfl, by decide⟩))))), by rw [g.at _ _ (hW _ _ (Or.inr (Or.inr (Or.inl rfl))))]; exact e2⟩
theorem YD.dw {B q : Nat} {h t : AH} (y : YD B q h) (g : Agr (dW q) h t) : YD B q t := y.agr g (fun c k p w => w.2.2 p)
theorem YD.far {B q : Nat} {h t : AH} {W : Nat → Nat → Prop} (y : YD B q h) (g : Agr W h t) (hW : ∀ c k, q ≤ c → c < q + 140 → ¬ W c k) : YD B q t := y.agr g (fun c k p => by
  rcases p with p | p | p | ⟨s, hs, p, _⟩ | ⟨s, hs, p, _⟩ <;> exact hW _ _ (by omega) (by omega))
theorem sk_dW {q s c k : Nat} (hs : s < 6) (w : csW (q + (8 + 14 * s)) c k) : dW q c k := by
  unfold csW at w
  refine ⟨by omega, by omega, fun p => ?_⟩
  rcases p with p | p | p | ⟨s', hs', p, p2⟩ | ⟨s', hs', p, _⟩ <;> omega
theorem ft_dW {q s c k : Nat} (hs : s < 24) (w : cfW (q + (92 + 2 * s)) c k) : dW q c k := by
  unfold cfW at w
  refine ⟨by omega, by omega, fun p => ?_⟩
  rcases p with p | p | p | ⟨s', hs', p, p2⟩ | ⟨s', hs', p, _⟩ <;> omega
theorem ar_dW {q j k : Nat} (hj : (1 ≤ j ∧ j ≤ 4) ∨ j = 7) : dW q (q + j) k := by
  refine ⟨by omega, by omega, fun p => ?_⟩
  rcases p with p | p | p | ⟨s', hs', p, p2⟩ | ⟨s', hs', p, _⟩ <;> omega
theorem hd_dW {q k : Nat} (hk : k < 6) : dW q q k := by
  refine ⟨by omega, by omega, fun p => ?_⟩
  rcases p with p | p | p | ⟨s', hs', p, p2⟩ | ⟨s', hs', p, _⟩ <;> omega
/-- what a design's cells hold is of the right kind -/
def TD (h : AH) (q : Nat) : Prop := (∀ k, k < 160 → FR0 h (hv h (q + 3) k)) ∧ (∀ s, s < 6 → TS h (q + (8 + 14 * s))) ∧ (∀ f, f < 24 → TF h (q + (92 + 2 * f))) ∧ 0 ≤ hv h q 3 ∧ hv h q 3 ≤ 6
def DsEq (h : AH) (a : Nat) (t : AH) (b : Nat) : Prop := (∀ k, k < 6 → hv t b k = hv h a k) ∧ (∀ k, k < 480 → hv t (b + 1) k = hv h (a + 1) k) ∧ (∀ k, k < 40 → hv t (b + 2) k = hv h (a + 2) k) ∧ (∀ k, k < 160 → hv t (b + 3) k = hv h (a + 3) k) ∧ (∀ k, k < 4 → hv t (b + 4) k = hv h (a + 4) k) ∧ (∀ s : Nat, s < 6 → (s : Int) < hv h a 3 → SkEq h (a + (8 + 14 * s)) t (b + (8 + 14 * s))) ∧ (∀ f, f < 24 → FtEq h (a + (92 + 2 * f)) t (b + (92 + 2 * f))) ∧ ∀ k, k < 24 → hv t (b + 7) k = hv h (a + 7) k
def eW (q : Nat) : Nat → Nat → Prop := fun c k => (c = q ∧ k < 6) ∨ (q + 1 ≤ c ∧ c ≤ q + 4)
theorem e_d {q : Nat} {h t : AH} (g : Agr (eW q) h t) : Agr (dW q) h t := g.sub (fun c k w => by
  unfold eW at w
  refine ⟨by omega, by omega, fun p => ?_⟩
  rcases p with p | p | p | ⟨s', hs', p, p2⟩ | ⟨s', hs', p, _⟩ <;> omega)
section CPYD
variable {gv : Nat → Int} {B n d : Nat} {h : AH} {f0 f1 q0 q1 : Nat}
theorem TS.keep {t : AH} {w : Nat} {W : Nat → Nat → Prop} (T : TS h w) (g : Agr W h t) (hW : ∀ j k, 1 ≤ j → j ≤ 13 → ¬ W (w + j) k) : TS t w :=
  ⟨fun k hk => by rw [g.at _ _ (hW 5 k (by decide) (by decide))]; exact T.1 k hk, fun k hk => by rw [g.at _ _ (hW 12 k (by decide) (by decide))]; exact T.2.1 k hk, fun k hk => by rw [g.at _ _ (hW 7 k (by decide) (by decide))]; exact (T.2.2.1 k hk).agr g, fun k hk => by rw [g.at _ _ (hW 13 k (by decide) (by decide))]; exact (T.2.2.2 k hk).agr g⟩
theorem TS.eq {t : AH} {a b : Nat} {W : Nat → Nat → Prop} (T : TS h a) (g : Agr W h t) (E : SkEq h a t b) : TS t b :=
  ⟨fun k hk => by rw [E.2 5 k (by decide) (by decide) hk]; exact T.1 k hk, fun k hk => by rw [E.2 12 k (by decide) (by decide) hk]; exact T.2.1 k hk, fun k hk => by rw [E.2 7 k (by decide) (by decide) hk]; exact (T.2.2.1 k hk).agr g, fun k hk => by rw [E.2 13 k (by decide) (by decide) hk]; exact (T.2.2.2 k hk).agr g⟩
theorem TF.eq {t : AH} {a b : Nat} {W : Nat → Nat → Prop} (T : TF h a) (g : Agr W h t) (E : FtEq h a t b) : TF t b :=
  ⟨by rw [E.1 0 (by decide)]; exact T.1, by rw [E.1 4 (by decide)]; exact T.2.1, fun k hk => by rw [E.2 k hk]; exact (T.2.2 k hk).agr g⟩
theorem c_copyFt (l : LX B n h) (hd : 10 ≤ d) (y0 : YF B f0 h) (y1 : YF B f1 h) (hw : f0 + 1 < f1 ∨ f1 + 1 < f0) (T : TF h f0) :
    Vd (cll PP (ev PP (gsF gv) B) d 872 [(2, (rf f0)), (2, (rf f1))] h) (fun h' => Agr (cfW f1) h h' ∧ FtEq h f0 h' f1) := by
  obtain ⟨T1, T2, T3⟩ := T
  have lo := y1.lo
  refine Vd.into (D := 9) hd (Nat.le_of_ble_eq_true rfl) rfl (fun d hd => ?_)
  have F0 := y0
  have F1 := y1
  refine Ends.eq (b872_0 (n := n) (by (repeat' first | assumption | refine LX.setF _ _ ?_ (by decide +kernel) | refine LX.setS ?_ rfl | refine LX.setA ?_ (by first | assumption | omega))) (by first | assumption | omega) (by first | assumption | omega) (by first | assumption | omega)) ?_
  have ne : f0 ≠ f1 := by omega
  simp only [hv_na ne]
  refine Ends.g T1 (Ends.g T2 ?_)
  generalize eq0 : hset (hset (hset (hset (hset h f1 0 (hv h f0 0)) f1 1 (hv h f0 1)) f1 2 (hv h f0 2)) f1 3 (hv h f0 3)) f1 4 (hv h f0 4) = s0
  have g0 : Agr (cfW f1) h s0 := by
    rw [← eq0]
    exact ((((Agr.rf.set (Or.inl ⟨rfl, by decide⟩)).set (Or.inl ⟨rfl, by decide⟩)).set (Or.inl ⟨rfl, by decide⟩)).set (Or.inl ⟨rfl, by decide⟩)).set (Or.inl ⟨rfl, by decide⟩)
  have l0 : LX B n s0 := by
    rw [← eq0]
    exact lx_na (lx_na (lx_na (lx_na (lx_na l lo) lo) lo) lo) lo
  have f00 : ∀ k, k < 5 → hv s0 f1 k = hv h f0 k := fun k hk => by
    rw [← eq0]
    have : k = 0 ∨ k = 1 ∨ k = 2 ∨ k = 3 ∨ k = 4 := by omega
    rcases this with rfl | rfl | rfl | rfl | rfl
    · rw [hv_set_ne (by omega), hv_set_ne (by omega), hv_set_ne (by omega), hv_set_ne (by omega), hv_set_at]
    · rw [hv_set_ne (by omega), hv_set_ne (by omega), hv_set_ne (by omega), hv_set_at]
    · rw [hv_set_ne (by omega), hv_set_ne (by omega), hv_set_at]
    · rw [hv_set_ne (by omega), hv_set_at]
    · rw [hv_set_at]
  clear eq0
  refine lp 7 (fun i L q => (L = [(2, rf f0), (2, rf f1), (0, (i : Int))]) ∧ LX B n q ∧ i ≤ 7 ∧ Agr (cfW f1) h q ∧ (∀ k, k < 5 → hv q f1 k = hv h f0 k) ∧ ∀ k, k < i → hv q (f1 + 1) k = hv h (f0 + 1) k) ?_ ?_ 0 ⟨rfl, l0, by decide, g0, f00, fun k hk => absurd hk (by omega)⟩
  · rintro i _ q hi ⟨rfl, lq, -, gq, fq, aq⟩ ih
    have F0 := y0.agr gq (by unfold cfW; omega)
    have F1 := y1.agr gq (by unfold cfW; omega)
    have src : hv q (f0 + 1) i = hv h (f0 + 1) i := gq.at _ _ (by unfold cfW; omega)
    refine Ends.eq (b872_42 (n := n) (by (repeat' first | assumption | refine LX.setF _ _ ?_ (by decide +kernel) | refine LX.setS ?_ rfl | refine LX.setA ?_ (by first | assumption | omega))) (by first | assumption | omega) (by first | assumption | omega) (by first | assumption | omega)) ?_
    rw [tn, src]
    refine Ends.b3 (fun z => by omega) (fun _ => Ends.g ⟨by omega, by omega⟩ (Ends.g ⟨⟨by omega, by omega⟩, ((T3 i hi).agr gq).ro⟩ ?_))
    have l2 : LX B n (hset q (f1 + 1) i (hv h (f0 + 1) i)) := lx_na lq (by omega)
    have g2 : Agr (cfW f1) h (hset q (f1 + 1) i (hv h (f0 + 1) i)) := gq.set (Or.inr rfl)
    have F0 := y0.agr g2 (by unfold cfW; omega)
    have F1 := y1.agr g2 (by unfold cfW; omega)
    refine Ends.eq (b872_60 (n := n) (by (repeat' first | assumption | refine LX.setF _ _ ?_ (by decide +kernel) | refine LX.setS ?_ rfl | refine LX.setA ?_ (by first | assumption | omega))) (by first | assumption | omega)) ?_
    rw [w_succ (by omega)]
    refine ih _ _ ⟨rfl, l2, hi, g2, fun k hk => by rw [hv_na (by omega)]; exact fq k hk, fun k hk => ?_⟩
    by_cases e : k = i
    · subst e; rw [hv_set_at]
    · rw [hv_set_ne (by omega)]; exact aq k (by omega)
  · rintro i _ q hi ⟨rfl, lq, hi2, gq, fq, aq⟩
    obtain rfl : i = 7 := by omega
    have F0 := y0.agr gq (by unfold cfW; omega)
    have F1 := y1.agr gq (by unfold cfW; omega)
    refine Ends.eq (b872_42 (n := n) (by (repeat' first | assumption | refine LX.setF _ _ ?_ (by decide +kernel) | refine LX.setS ?_ rfl | refine LX.setA ?_ (by first | assumption | omega))) (by first | assumption | omega) (by first | assumption | omega) (by first | assumption | omega)) ?_
    exact Ends.b3 (fun _ => Ends.sm ⟨_, rfl, gq, fq, aq⟩) (fun z => absurd z (by decide))
set_option maxHeartbeats 4000000 in
theorem c_copyD (l : LX B n h) (hd : 12 ≤ d) (y0 : YD B q0 h) (y1 : YD B q1 h) (hw : q0 + 140 ≤ q1 ∨ q1 + 140 ≤ q0) (T : TD h q0) (T' : TD h q1) :
    Vd (cll PP (ev PP (gsF gv) B) d 870 [(2, (rf q0)), (2, (rf q1))] h) (fun h' => Agr (dW q1) h h' ∧ DsEq h q0 h' q1 ∧ TD h' q1) := by
  have lo := y1.lo
  obtain ⟨T1, T2, T3, T4, T5⟩ := T
  refine Vd.into (D := 11) hd (Nat.le_of_ble_eq_true rfl) rfl (fun d hd => ?_)
  have D0 := y0
  have D1 := y1
  refine Ends.eq (b870_0 (n := n) (by (repeat' first | assumption | refine LX.setF _ _ ?_ (by decide +kernel) | refine LX.setS ?_ rfl | refine LX.setA ?_ (by first | assumption | omega))) (by first | assumption | omega) (by first | assumption | omega) (by first | assumption | omega)) ?_
  have ne : q0 ≠ q1 := by omega
  simp only [hv_na ne]
  generalize eq0 : hset (hset (hset (hset (hset (hset h q1 0 (hv h q0 0)) q1 1 (hv h q0 1)) q1 2 (hv h q0 2)) q1 3 (hv h q0 3)) q1 4 (hv h q0 4)) q1 5 (hv h q0 5) = s0
  have g0 : Agr (eW q1) h s0 := by
    rw [← eq0]
    exact (((((Agr.rf.set (Or.inl ⟨rfl, by decide⟩)).set (Or.inl ⟨rfl, by decide⟩)).set (Or.inl ⟨rfl, by decide⟩)).set (Or.inl ⟨rfl, by decide⟩)).set (Or.inl ⟨rfl, by decide⟩)).set (Or.inl ⟨rfl, by decide⟩)
  have l0 : LX B n s0 := by
    rw [← eq0]
    exact lx_na (lx_na (lx_na (lx_na (lx_na (lx_na l lo) lo) lo) lo) lo) lo
  have f00 : ∀ k, k < 6 → hv s0 q1 k = hv h q0 k := fun k hk => by
    rw [← eq0]
    have : k = 0 ∨ k = 1 ∨ k = 2 ∨ k = 3 ∨ k = 4 ∨ k = 5 := by omega
    rcases this with rfl | rfl | rfl | rfl | rfl | rfl
    · rw [hv_set_ne (by omega), hv_set_ne (by omega), hv_set_ne (by omega), hv_set_ne (by omega), hv_set_ne (by omega), hv_set_at]
    · rw [hv_set_ne (by omega), hv_set_ne (by omega), hv_set_ne (by omega), hv_set_ne (by omega), hv_set_at]
    · rw [hv_set_ne (by omega), hv_set_ne (by omega), hv_set_ne (by omega), hv_set_at]
    · rw [hv_set_ne (by omega), hv_set_ne (by omega), hv_set_at]
    · rw [hv_set_ne (by omega), hv_set_at]
    · rw [hv_set_at]
  clear eq0
  have Y0 : ∀ q, Agr (dW q1) h q → YD B q0 q := fun q g => y0.far g (fun c k h1 h2 => by unfold dW; omega)
  have Y1 : ∀ q, Agr (dW q1) h q → YD B q1 q := fun q g => y1.dw g
  have src : ∀ q, Agr (dW q1) h q → ∀ j k, j < 140 → hv q (q0 + j) k = hv h (q0 + j) k := fun q g j k hj => g.at _ _ (by unfold dW; omega)
  have src0 : ∀ q, Agr (dW q1) h q → ∀ k, hv q q0 k = hv h q0 k := fun q g k => g.at _ _ (by unfold dW; omega)
  refine lp 480 (fun i L q => (L = [(2, rf q0), (2, rf q1), (0, (i : Int))]) ∧ LX B n q ∧ i ≤ 480 ∧ Agr (eW q1) h q ∧ (∀ k, k < 6 → hv q q1 k = hv h q0 k) ∧ ∀ k, k < i → hv q (q1 + 1) k = hv h (q0 + 1) k) ?_ ?_ 0 ⟨rfl, l0, by decide, g0, f00, fun k hk => absurd hk (by omega)⟩
  · rintro i _ q hi ⟨rfl, lq, -, gq, fq, aq⟩ ih
    have D0 := Y0 q (e_d gq)
    have D1 := Y1 q (e_d gq)
    refine Ends.eq (b870_50 (n := n) (by (repeat' first | assumption | refine LX.setF _ _ ?_ (by decide +kernel) | refine LX.setS ?_ rfl | refine LX.setA ?_ (by first | assumption | omega))) (by first | assumption | omega) (by first | assumption | omega) (by first | assumption | omega)) ?_
    rw [tn, an0, src q (e_d gq) 1 i (by decide), w_succ (by omega)]
    refine Ends.b3 (fun z => by omega) (fun _ => Ends.g ⟨by omega, by omega⟩ ?_)
    refine ih _ _ ⟨rfl, lx_na lq (by omega), hi, gq.set (Or.inr ⟨by omega, by omega⟩), fun k hk => by rw [hv_na (by omega)]; exact fq k hk, fun k hk => ?_⟩
    by_cases e : k = i
    · subst e; rw [hv_set_at]
    · rw [hv_set_ne (by omega)]; exact aq k (by omega)
  rintro i _ q hi ⟨rfl, lq, hi2, gq, fq, aq⟩
  obtain rfl : i = 480 := by omega
  have D0 := Y0 q (e_d gq)
  have D1 := Y1 q (e_d gq)
  refine Ends.eq (b870_50 (n := n) (by (repeat' first | assumption | refine LX.setF _ _ ?_ (by decide +kernel) | refine LX.setS ?_ rfl | refine LX.setA ?_ (by first | assumption | omega))) (by first | assumption | omega) (by first | assumption | omega) (by first | assumption | omega)) ?_
  refine Ends.b3 (fun _ => ?_) (fun z => absurd z (by decide))
  clear D0 D1
  refine lp 40 (fun i L q => (L = [(2, rf q0), (2, rf q1), (0, (i : Int))]) ∧ LX B n q ∧ i ≤ 40 ∧ Agr (eW q1) h q ∧ (∀ k, k < 6 → hv q q1 k = hv h q0 k) ∧ (∀ k, k < 480 → hv q (q1 + 1) k = hv h (q0 + 1) k) ∧ ∀ k, k < i → hv q (q1 + 2) k = hv h (q0 + 2) k) ?_ ?_ 0 ⟨rfl, lq, by decide, gq, fq, aq, fun k hk => absurd hk (by omega)⟩
  · clear lq gq fq aq
    rintro i _ q hi ⟨rfl, lq, -, gq, fq, aq, bq⟩ ih
    have D0 := Y0 q (e_d gq)
    have D1 := Y1 q (e_d gq)
    refine Ends.eq (b870_77 (n := n) (by (repeat' first | assumption | refine LX.setF _ _ ?_ (by decide +kernel) | refine LX.setS ?_ rfl | refine LX.setA ?_ (by first | assumption | omega))) (by first | assumption | omega) (by first | assumption | omega) (by first | assumption | omega)) ?_
    rw [tn, an0, src q (e_d gq) 2 i (by decide), w_succ (by omega)]
    refine Ends.b3 (fun z => by omega) (fun _ => Ends.g ⟨by omega, by omega⟩ ?_)
    refine ih _ _ ⟨rfl, lx_na lq (by omega), hi, gq.set (Or.inr ⟨by omega, by omega⟩), fun k hk => by rw [hv_na (by omega)]; exact fq k hk, fun k hk => by rw [hv_na (by omega)]; exact aq k hk, fun k hk => ?_⟩
    by_cases e : k = i
    · subst e; rw [hv_set_at]
    · rw [hv_set_ne (by omega)]; exact bq k (by omega)
  clear lq gq fq aq
  rintro i _ q hi ⟨rfl, lq, hi2, gq, fq, aq, bq⟩
  obtain rfl : i = 40 := by omega
  have D0 := Y0 q (e_d gq)
  have D1 := Y1 q (e_d gq)
  refine Ends.eq (b870_77 (n := n) (by (repeat' first | assumption | refine LX.setF _ _ ?_ (by decide +kernel) | refine LX.setS ?_ rfl | refine LX.setA ?_ (by first | assumption | omega))) (by first | assumption | omega) (by first | assumption | omega) (by first | assumption | omega)) ?_
  refine Ends.b3 (fun _ => ?_) (fun z => absurd z (by decide))
  clear D0 D1
  refine lp 160 (fun i L q => (L = [(2, rf q0), (2, rf q1), (0, (i : Int))]) ∧ LX B n q ∧ i ≤ 160 ∧ Agr (eW q1) h q ∧ (∀ k, k < 6 → hv q q1 k = hv h q0 k) ∧ (∀ k, k < 480 → hv q (q1 + 1) k = hv h (q0 + 1) k) ∧ (∀ k, k < 40 → hv q (q1 + 2) k = hv h (q0 + 2) k) ∧ ∀ k, k < i → hv q (q1 + 3) k = hv h (q0 + 3) k) ?_ ?_ 0 ⟨rfl, lq, by decide, gq, fq, aq, bq, fun k hk => absurd hk (by omega)⟩
  · clear lq gq fq aq bq
    rintro i _ q hi ⟨rfl, lq, -, gq, fq, aq, bq, cq⟩ ih
    have D0 := Y0 q (e_d gq)
    have D1 := Y1 q (e_d gq)
    refine Ends.eq (b870_103 (n := n) (by (repeat' first | assumption | refine LX.setF _ _ ?_ (by decide +kernel) | refine LX.setS ?_ rfl | refine LX.setA ?_ (by first | assumption | omega))) (by first | assumption | omega) (by first | assumption | omega) (by first | assumption | omega)) ?_
    rw [tn, src q (e_d gq) 3 i (by decide)]
    refine Ends.b3 (fun z => by omega) (fun _ => Ends.g ⟨by omega, by omega⟩ (Ends.g ⟨⟨by omega, by omega⟩, ((T1 i hi).agr gq).ro⟩ ?_))
    have l2 : LX B n (hset q (q1 + 3) i (hv h (q0 + 3) i)) := lx_na lq (by omega)
    have g2 : Agr (eW q1) h (hset q (q1 + 3) i (hv h (q0 + 3) i)) := gq.set (Or.inr ⟨by omega, by omega⟩)
    have D0 := Y0 _ (e_d g2)
    have D1 := Y1 _ (e_d g2)
    refine Ends.eq (b870_122 (n := n) (by (repeat' first | assumption | refine LX.setF _ _ ?_ (by decide +kernel) | refine LX.setS ?_ rfl | refine LX.setA ?_ (by first | assumption | omega))) (by first | assumption | omega)) ?_
    rw [w_succ (by omega)]
    refine ih _ _ ⟨rfl, l2, hi, g2, fun k hk => by rw [hv_na (by omega)]; exact fq k hk, fun k hk => by rw [hv_na (by omega)]; exact aq k hk, fun k hk => by rw [hv_na (by omega)]; exact bq k hk, fun k hk => ?_⟩
    by_cases e : k = i
    · subst e; rw [hv_set_at]
    · rw [hv_set_ne (by omega)]; exact cq k (by omega)
  clear lq gq fq aq bq
  rintro i _ q hi ⟨rfl, lq, hi2, gq, fq, aq, bq, cq⟩
  obtain rfl : i = 160 := by omega
  have D0 := Y0 q (e_d gq)
  have D1 := Y1 q (e_d gq)
  refine Ends.eq (b870_103 (n := n) (by (repeat' first | assumption | refine LX.setF _ _ ?_ (by decide +kernel) | refine LX.setS ?_ rfl | refine LX.setA ?_ (by first | assumption | omega))) (by first | assumption | omega) (by first | assumption | omega) (by first | assumption | omega)) ?_
  refine Ends.b3 (fun _ => ?_) (fun z => absurd z (by decide))
  clear D0 D1
  refine lp 4 (fun i L q => (L = [(2, rf q0), (2, rf q1), (0, (i : Int))]) ∧ LX B n q ∧ i ≤ 4 ∧ Agr (eW q1) h q ∧ (∀ k, k < 6 → hv q q1 k = hv h q0 k) ∧ (∀ k, k < 480 → hv q (q1 + 1) k = hv h (q0 + 1) k) ∧ (∀ k, k < 40 → hv q (q1 + 2) k = hv h (q0 + 2) k) ∧ (∀ k, k < 160 → hv q (q1 + 3) k = hv h (q0 + 3) k) ∧ ∀ k, k < i → hv q (q1 + 4) k = hv h (q0 + 4) k) ?_ ?_ 0 ⟨rfl, lq, by decide, gq, fq, aq, bq, cq, fun k hk => absurd hk (by omega)⟩
  · clear lq gq fq aq bq cq
    rintro i _ q hi ⟨rfl, lq, -, gq, fq, aq, bq, cq, dq⟩ ih
    have D0 := Y0 q (e_d gq)
    have D1 := Y1 q (e_d gq)
    refine Ends.eq (b870_130 (n := n) (by (repeat' first | assumption | refine LX.setF _ _ ?_ (by decide +kernel) | refine LX.setS ?_ rfl | refine LX.setA ?_ (by first | assumption | omega))) (by first | assumption | omega) (by first | assumption | omega) (by first | assumption | omega)) ?_
    rw [tn, an0, src q (e_d gq) 4 i (by decide), w_succ (by omega)]
    refine Ends.b3 (fun z => by omega) (fun _ => Ends.g ⟨by omega, by omega⟩ ?_)
    refine ih _ _ ⟨rfl, lx_na lq (by omega), hi, gq.set (Or.inr ⟨by omega, by omega⟩), fun k hk => by rw [hv_na (by omega)]; exact fq k hk, fun k hk => by rw [hv_na (by omega)]; exact aq k hk, fun k hk => by rw [hv_na (by omega)]; exact bq k hk, fun k hk => by rw [hv_na (by omega)]; exact cq k hk, fun k hk => ?_⟩
    by_cases e : k = i
    · subst e; rw [hv_set_at]
    · rw [hv_set_ne (by omega)]; exact dq k (by omega)
  clear lq gq fq aq bq cq
  rintro i _ q hi ⟨rfl, lq, hi2, gq, fq, aq, bq, cq, dq⟩
  obtain rfl : i = 4 := by omega
  have D0 := Y0 q (e_d gq)
  have D1 := Y1 q (e_d gq)
  refine Ends.eq (b870_130 (n := n) (by (repeat' first | assumption | refine LX.setF _ _ ?_ (by decide +kernel) | refine LX.setS ?_ rfl | refine LX.setA ?_ (by first | assumption | omega))) (by first | assumption | omega) (by first | assumption | omega) (by first | assumption | omega)) ?_
  refine Ends.b3 (fun _ => ?_) (fun z => absurd z (by decide))
  clear D0 D1
  obtain ⟨ns, ens⟩ : ∃ ns : Nat, hv h q0 3 = (ns : Int) := ⟨(hv h q0 3).toNat, by omega⟩
  have hns : ns ≤ 6 := by omega
  -- what was said so far, as one
  have base : ∀ s t, Agr (fun c k => ∃ z, z < 6 ∧ csW (q1 + (8 + 14 * z)) c k) s t → Agr (dW q1) s t := fun s t g => g.sub (fun c k ⟨z, hz, w⟩ => sk_dW hz w)
  have Q0 : ∀ t, Agr (fun c k => ∃ z, z < 6 ∧ csW (q1 + (8 + 14 * z)) c k) q t → (∀ k, k < 6 → hv t q1 k = hv h q0 k) ∧ (∀ j k, 1 ≤ j → j ≤ 4 → hv t (q1 + j) k = hv q (q1 + j) k) := fun t g => ⟨fun k hk => by rw [g.at _ _ (fun ⟨z, hz, w⟩ => by unfold csW at w; omega)]; exact fq k hk, fun j k h1 h2 => g.at _ _ (fun ⟨z, hz, w⟩ => by unfold csW at w; omega)⟩
  refine lp ns (fun i L t => (L = [(2, rf q0), (2, rf q1), (0, (i : Int))]) ∧ LX B n t ∧ i ≤ ns ∧ Agr (fun c k => ∃ z, z < 6 ∧ csW (q1 + (8 + 14 * z)) c k) q t ∧ (∀ s, s < i → SkEq h (q0 + (8 + 14 * s)) t (q1 + (8 + 14 * s))) ∧ ∀ s, s < 6 → i ≤ s → ∀ c k, q1 + (8 + 14 * s) ≤ c → c ≤ q1 + (8 + 14 * s) + 13 → hv t c k = hv q c k) ?_ ?_ 0 ⟨rfl, lq, by omega, Agr.rf, fun s hs => absurd hs (by omega), fun _ _ _ _ _ _ _ => rfl⟩
  · rintro i _ t hi ⟨rfl, lt, -, gt, st, ut⟩ ih
    have Gt : Agr (dW q1) h t := (e_d gq).tr (base _ _ gt) (fun _ _ z => z)
    have D0 := Y0 t Gt
    have D1 := Y1 t Gt
    refine Ends.eq (b870_155 (n := n) (by (repeat' first | assumption | refine LX.setF _ _ ?_ (by decide +kernel) | refine LX.setS ?_ rfl | refine LX.setA ?_ (by first | assumption | omega))) (by first | assumption | omega) (by first | assumption | omega) (by first | assumption | omega)) ?_
    rw [src0 t Gt 3, ens, tn]
    refine Ends.b3 (fun z => by omega) (fun _ => Ends.g ⟨by omega, by omega⟩ ?_)
    have Ti : TS t (q0 + (8 + 14 * i)) := (T2 i (by omega)).keep Gt (fun j k h1 h2 => by unfold dW; omega)
    refine Ends.cv lt (by decide +kernel) (c_copySk lt (by omega) (D0.2.2.2.1 i (by omega)).1 (D1.2.2.2.1 i (by omega)).1 (by omega) Ti) (fun t2 l2 _ _ _ ⟨g2, e2⟩ => ?_)
    have g3 : Agr (fun c k => ∃ z, z < 6 ∧ csW (q1 + (8 + 14 * z)) c k) q t2 := gt.tr g2 (fun c k w => ⟨i, by omega, w⟩)
    have G3 : Agr (dW q1) h t2 := (e_d gq).tr (base _ _ g3) (fun _ _ z => z)
    have D0 := Y0 t2 G3
    have D1 := Y1 t2 G3
    refine Ends.eq (b870_178 (n := n) (by (repeat' first | assumption | refine LX.setF _ _ ?_ (by decide +kernel) | refine LX.setS ?_ rfl | refine LX.setA ?_ (by first | assumption | omega))) (by first | assumption | omega)) ?_
    rw [w_succ (by omega)]
    refine ih _ _ ⟨rfl, l2, hi, g3, fun s hs => ?_, fun s hs hsi c k h1 h2 => ?_⟩
    · by_cases e : s = i
      · subst e
        exact ⟨fun k hk => by rw [e2.1 k hk]; exact src t Gt _ k (by omega), fun j k h1 h2 hk => by rw [e2.2 j k h1 h2 hk, Nat.add_assoc q0]; exact src t Gt _ k (by omega)⟩
      · have := st s (by omega)
        exact ⟨fun k hk => by rw [g2.at _ _ (by unfold csW; omega)]; exact this.1 k hk, fun j k h1 h2 hk => by rw [g2.at _ _ (by unfold csW; omega)]; exact this.2 j k h1 h2 hk⟩
    · rw [g2.at _ _ (by unfold csW; omega)]; exact ut s hs (by omega) c k h1 h2
  rintro i _ t hi ⟨rfl, lt, hi2, gt, st, ut⟩
  obtain rfl : ns = i := by omega
  have Gt : Agr (dW q1) h t := (e_d gq).tr (base _ _ gt) (fun _ _ z => z)
  have D0 := Y0 t Gt
  have D1 := Y1 t Gt
  obtain ⟨ft, at'⟩ := Q0 t gt
  refine Ends.eq (b870_155 (n := n) (by (repeat' first | assumption | refine LX.setF _ _ ?_ (by decide +kernel) | refine LX.setS ?_ rfl | refine LX.setA ?_ (by first | assumption | omega))) (by first | assumption | omega) (by first | assumption | omega) (by first | assumption | omega)) ?_
  rw [src0 t Gt 3, ens]
  refine Ends.b3 (fun _ => ?_) (fun z => by omega)
  clear D0 D1
  refine lp 24 (fun j L r => (L = [(2, rf q0), (2, rf q1), (0, (j : Int))]) ∧ LX B n r ∧ j ≤ 24 ∧ Agr (fun c k => (∃ z, z < 24 ∧ cfW (q1 + (92 + 2 * z)) c k) ∨ c = q1 + 7) t r ∧ (∀ f, f < j → FtEq h (q0 + (92 + 2 * f)) r (q1 + (92 + 2 * f))) ∧ ∀ k, k < j → hv r (q1 + 7) k = hv h (q0 + 7) k) ?_ ?_ 0 ⟨rfl, lt, by omega, Agr.rf, fun s hs => absurd hs (by omega), fun k hk => absurd hk (by omega)⟩
  · rintro j _ r hj ⟨rfl, lr, -, gr, er, orr⟩ ih
    have Gr : Agr (dW q1) h r := Gt.tr gr (fun c k w => w.elim (fun ⟨z, hz, w⟩ => ft_dW hz w) (fun e => by rw [e]; exact ar_dW (by omega)))
    have D0 := Y0 r Gr
    have D1 := Y1 r Gr
    refine Ends.eq (b870_186 (n := n) (by (repeat' first | assumption | refine LX.setF _ _ ?_ (by decide +kernel) | refine LX.setS ?_ rfl | refine LX.setA ?_ (by first | assumption | omega))) (by first | assumption | omega) (by first | assumption | omega) (by first | assumption | omega)) ?_
    rw [tn]
    refine Ends.b3 (fun z => by omega) (fun _ => Ends.g ⟨by omega, by omega⟩ ?_)
    have Tj : TF r (q0 + (92 + 2 * j)) := by
      have := T3 j hj
      exact ⟨by rw [src r Gr _ 0 (by omega)]; exact this.1, by rw [src r Gr _ 4 (by omega)]; exact this.2.1, fun k hk => by rw [Nat.add_assoc q0, src r Gr _ k (by omega), ← Nat.add_assoc q0]; exact (this.2.2 k hk).agr Gr⟩
    refine Ends.cv lr (by decide +kernel) (c_copyFt lr (by omega) (D0.2.2.2.2 j hj).1 (D1.2.2.2.2 j hj).1 (by omega) Tj) (fun r2 l2 _ _ _ ⟨g2, e2⟩ => ?_)
    have G2 : Agr (dW q1) h r2 := Gr.tr g2 (fun c k w => ft_dW hj w)
    have D0 := Y0 r2 G2
    have D1 := Y1 r2 G2
    refine Ends.eq (b870_207 (n := n) (by (repeat' first | assumption | refine LX.setF _ _ ?_ (by decide +kernel) | refine LX.setS ?_ rfl | refine LX.setA ?_ (by first | assumption | omega))) (by first | assumption | omega) (by first | assumption | omega) (by first | assumption | omega)) ?_
    rw [tn, an0, src r2 G2 7 j (by decide), w_succ (by omega)]
    refine Ends.g ⟨by omega, by omega⟩ ?_
    refine ih _ _ ⟨rfl, lx_na l2 (by omega), hj, (gr.tr g2 (fun c k w => Or.inl ⟨j, hj, w⟩)).set (Or.inr rfl), fun f hf => ?_, fun k hk => ?_⟩
    · by_cases e : f = j
      · subst e
        exact ⟨fun k hk => by rw [hv_na (by omega), e2.1 k hk]; exact src r Gr _ k (by omega), fun k hk => by rw [hv_na (by omega), e2.2 k hk, Nat.add_assoc q0]; exact src r Gr _ k (by omega)⟩
      · have := er f (by omega)
        exact ⟨fun k hk => by rw [hv_na (by omega), g2.at _ _ (by unfold cfW; omega)]; exact this.1 k hk, fun k hk => by rw [hv_na (by omega), g2.at _ _ (by unfold cfW; omega)]; exact this.2 k hk⟩
    · by_cases e : k = j
      · subst e; rw [hv_set_at]
      · rw [hv_set_ne (by omega), g2.at _ _ (by unfold cfW; omega)]; exact orr k (by omega)
  rintro j _ r hj ⟨rfl, lr, hj2, gr, er, orr⟩
  obtain rfl : j = 24 := by omega
  have Gr : Agr (dW q1) h r := Gt.tr gr (fun c k w => w.elim (fun ⟨z, hz, w⟩ => ft_dW hz w) (fun e => by rw [e]; exact ar_dW (by omega)))
  have D0 := Y0 r Gr
  have D1 := Y1 r Gr
  refine Ends.eq (b870_186 (n := n) (by (repeat' first | assumption | refine LX.setF _ _ ?_ (by decide +kernel) | refine LX.setS ?_ rfl | refine LX.setA ?_ (by first | assumption | omega))) (by first | assumption | omega) (by first | assumption | omega) (by first | assumption | omega)) ?_
  refine Ends.b3 (fun _ => ?_) (fun z => absurd z (by decide))
  have rt : ∀ c k, (∀ z, z < 24 → ¬ cfW (q1 + (92 + 2 * z)) c k) → c ≠ q1 + 7 → hv r c k = hv t c k := fun c k h1 h2 => gr.at c k (fun w => w.elim (fun ⟨z, hz, w⟩ => h1 z hz w) h2)
  have A1 : ∀ k, k < 6 → hv r q1 k = hv h q0 k := fun k hk => by rw [rt _ _ (fun z hz => by unfold cfW; omega) (by omega)]; exact ft k hk
  have Aj : ∀ j k, 1 ≤ j → j ≤ 4 → hv r (q1 + j) k = hv q (q1 + j) k := fun j k h1 h2 => by rw [rt _ _ (fun z hz => by unfold cfW; omega) (by omega)]; exact at' j k h1 h2
  have As : ∀ s, s < ns → SkEq h (q0 + (8 + 14 * s)) r (q1 + (8 + 14 * s)) := fun s hs => by
    have := st s hs
    exact ⟨fun k hk => by rw [rt _ _ (fun z hz => by unfold cfW; omega) (by omega)]; exact this.1 k hk, fun j k h1 h2 hk => by rw [rt _ _ (fun z hz => by unfold cfW; omega) (by omega)]; exact this.2 j k h1 h2 hk⟩
  refine Ends.sm ⟨_, rfl, Gr, ⟨A1, fun k hk => by rw [Aj 1 k (by decide) (by decide)]; exact aq k hk, fun k hk => by rw [Aj 2 k (by decide) (by decide)]; exact bq k hk, fun k hk => by rw [Aj 3 k (by decide) (by decide)]; exact cq k hk, fun k hk => by rw [Aj 4 k (by decide) (by decide)]; exact dq k hk, fun s _ hs => As s (by omega), er, orr⟩, ?_, fun s hs => ?_, fun f hf => (T3 f hf).eq Gr (er f hf), ?_, ?_⟩
  · intro k hk
    rw [Aj 3 k (by decide) (by decide), cq k hk]
    exact (T1 k hk).agr Gr
  · by_cases e : s < ns
    · exact (T2 s hs).eq Gr (As s e)
    · obtain ⟨_, t2, _⟩ := T'
      have t2 := t2 s hs
      have same : ∀ j k, 1 ≤ j → j ≤ 13 → hv r (q1 + (8 + 14 * s) + j) k = hv h (q1 + (8 + 14 * s) + j) k := fun j k h1 h2 => by
        rw [rt _ _ (fun z hz => by unfold cfW; omega) (by omega), ut s hs (by omega) _ _ (by omega) (by omega)]
        exact gq.at _ _ (by unfold eW; omega)
      exact ⟨fun k hk => by rw [same 5 k (by decide) (by decide)]; exact t2.1 k hk, fun k hk => by rw [same 12 k (by decide) (by decide)]; exact t2.2.1 k hk, fun k hk => by rw [same 7 k (by decide) (by decide)]; exact (t2.2.2.1 k hk).agr Gr, fun k hk => by rw [same 13 k (by decide) (by decide)]; exact (t2.2.2.2 k hk).agr Gr⟩
  · rw [A1 3 (by decide)]; exact T4
  · rw [A1 3 (by decide)]; exact T5
end CPYD
