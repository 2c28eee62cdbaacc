/-! L3: the model's designs: sketches, features copied -/
theorem an3 {v : Int} (h : v = 0 ∨ v = 1) : anar 3 v = v := by rcases h with rfl | rfl <;> rfl
/-- a reference to a formula, to a field, or none -/
def FR0 (h : AH) (x : Int) : Prop := x = 0 ∨ (0 < x ∧ hk h (ad x) = (1, 24) ∧ ad x < hnx h)
def FL0 (h : AH) (x : Int) : Prop := x = 0 ∨ (0 < x ∧ hk h (ad x) = (1, 23) ∧ ad x < hnx h)
theorem FR0.ro {h : AH} {x : Int} (f : FR0 h x) : x = 0 ∨ (0 < x ∧ pRo PP 2 (hk h (ad x)) = true) := by
  rcases f with f | ⟨f1, f2, _⟩
  · exact Or.inl f
  · exact Or.inr ⟨f1, by rw [f2]; rfl⟩
theorem FL0.ro {h : AH} {x : Int} (f : FL0 h x) : x = 0 ∨ (0 < x ∧ pRo PP 5 (hk h (ad x)) = true) := by
  rcases f with f | ⟨f1, f2, _⟩
  · exact Or.inl f
  · exact Or.inr ⟨f1, by rw [f2]; rfl⟩
theorem FR0.agr {W : Nat → Nat → Prop} {h t : AH} {x : Int} (f : FR0 h x) (g : Agr W h t) : FR0 t x := f.imp id (fun ⟨a, b, c⟩ => ⟨a, by rw [g.hk]; exact b, by rw [g.nx]; exact c⟩)
theorem FL0.agr {W : Nat → Nat → Prop} {h t : AH} {x : Int} (f : FL0 h x) (g : Agr W h t) : FL0 t x := f.imp id (fun ⟨a, b, c⟩ => ⟨a, by rw [g.hk]; exact b, by rw [g.nx]; exact c⟩)
/-- how long a sketch's arrays are -/
def skL (j : Nat) : Nat := if j ≤ 2 then 12 else if j ≤ 5 then 24 else if j ≤ 7 then 6 else 32
/-- what a sketch's cells hold is of the right kind -/
def TS (h : AH) (w : Nat) : Prop := (∀ k, k < 24 → hv h (w + 5) k = 0 ∨ hv h (w + 5) k = 1) ∧ (∀ k, k < 32 → hv h (w + 12) k = 0 ∨ hv h (w + 12) k = 1) ∧ (∀ k, k < 6 → FR0 h (hv h (w + 7) k)) ∧ ∀ k, k < 32 → FR0 h (hv h (w + 13) k)
def TF (h : AH) (w : Nat) : Prop := (hv h w 0 = 0 ∨ hv h w 0 = 1) ∧ (hv h w 4 = 0 ∨ hv h w 4 = 1) ∧ ∀ k, k < 7 → FL0 h (hv h (w + 1) k)
/-- the sketch in b of t is as that in a of h -/
def SkEq (h : AH) (a : Nat) (t : AH) (b : Nat) : Prop := (∀ k, k < 6 → hv t b k = hv h a k) ∧ ∀ j k, 1 ≤ j → j ≤ 13 → k < skL j → hv t (b + j) k = hv h (a + j) k
def FtEq (h : AH) (a : Nat) (t : AH) (b : Nat) : Prop := (∀ k, k < 5 → hv t b k = hv h a k) ∧ ∀ k, k < 7 → hv t (b + 1) k = hv h (a + 1) k
theorem YS.agr {B w : Nat} {h t : AH} {W : Nat → Nat → Prop} (y : YS B w h) (g : Agr W h t) (hW : ∀ k, 6 ≤ k → ¬ W w k) : YS B w t := by
  unfold YS at *
  simp only [g.hk]
  rw [g.at w 6 (hW 6 (by decide)), g.at w 7 (hW 7 (by decide)), g.at w 8 (hW 8 (by decide)), g.at w 9 (hW 9 (by decide)), g.at w 10 (hW 10 (by decide)), g.at w 11 (hW 11 (by decide)), g.at w 12 (hW 12 (by decide)), g.at w 13 (hW 13 (by decide)), g.at w 14 (hW 14 (by decide)), g.at w 15 (hW 15 (by decide)), g.at w 16 (hW 16 (by decide)), g.at w 17 (hW 17 (by decide)), g.at w 18 (hW 18 (by decide))]
  exact y
theorem YF.agr {B w : Nat} {h t : AH} {W : Nat → Nat → Prop} (y : YF B w h) (g : Agr W h t) (hW : ¬ W w 5) : YF B w t := by
  unfold YF at *
  rw [g.hk, g.hk, g.at w 5 hW]
  exact y
section CPY
variable {gv : Nat → Int} {B n d : Nat} {h : AH} {w0 w1 : Nat}
/-- what copying a sketch writes -/
def csW (w1 : Nat) : Nat → Nat → Prop := fun c k => (c = w1 ∧ k < 6) ∨ (w1 + 1 ≤ c ∧ c ≤ w1 + 13)
theorem lx_sk {q : AH} {k : Nat} {v : Int} {a : Nat} (l : LX B n q) (y : YS B w1 h) (ha : w1 ≤ a) : LX B n (hset q a k v) := lx_na l (by have := y.lo; omega)
set_option maxHeartbeats 2000000 in
theorem c_copySk (l : LX B n h) (hd : 10 ≤ d) (y0 : YS B w0 h) (y1 : YS B w1 h) (hw : w0 + 13 < w1 ∨ w1 + 13 < w0) (T : TS h w0) :
    Vd (cll PP (ev PP (gsF gv) B) d 877 [(2, (rf w0)), (2, (rf w1))] h) (fun h' => Agr (csW w1) h h' ∧ SkEq h w0 h' w1) := by
  obtain ⟨T1, T2, T3, T4⟩ := T
  have lo := y1.lo
  refine Vd.into (D := 9) hd (Nat.le_of_ble_eq_true rfl) rfl (fun d hd => ?_)
  refine Ends.eq (b877_0 (n := n) (by (repeat' first | assumption | refine LX.setF _ _ ?_ (by decide +kernel) | refine LX.setS ?_ rfl | refine LX.setA ?_ (by first | assumption | omega))) (by first | assumption | omega) (by first | assumption | omega) (by first | assumption | omega)) ?_
  have ne : w0 ≠ w1 := by omega
  simp only [hv_na ne]
  generalize eq0 : hset (hset (hset (hset (hset (hset h w1 0 (hv h w0 0)) w1 1 (hv h w0 1)) w1 2 (hv h w0 2)) w1 3 (hv h w0 3)) w1 4 (hv h w0 4)) w1 5 (hv h w0 5) = q0
  have g0 : Agr (csW w1) h q0 := by
    rw [← eq0]
    exact (((((Agr.rf.set (Or.inl ⟨rfl, by decide⟩)).set (Or.inl ⟨rfl, by decide⟩)).set (Or.inl ⟨rfl, by decide⟩)).set (Or.inl ⟨rfl, by decide⟩)).set (Or.inl ⟨rfl, by decide⟩)).set (Or.inl ⟨rfl, by decide⟩)
  have l0 : LX B n q0 := by
    rw [← eq0]
    exact lx_na (lx_na (lx_na (lx_na (lx_na (lx_na l lo) lo) lo) lo) lo) lo
  have f0 : ∀ k, k < 6 → hv q0 w1 k = hv h w0 k := fun k hk => by
    rw [← eq0]
    have : k = 0 ∨ k = 1 ∨ k = 2 ∨ k = 3 ∨ k = 4 ∨ k = 5 := by omega
    rcases this with rfl | rfl | rfl | rfl | rfl | rfl
    · rw [hv_set_ne (by omega), hv_set_ne (by omega), hv_set_ne (by omega), hv_set_ne (by omega), hv_set_ne (by omega), hv_set_at]
    · rw [hv_set_ne (by omega), hv_set_ne (by omega), hv_set_ne (by omega), hv_set_ne (by omega), hv_set_at]
    · rw [hv_set_ne (by omega), hv_set_ne (by omega), hv_set_ne (by omega), hv_set_at]
    · rw [hv_set_ne (by omega), hv_set_ne (by omega), hv_set_at]
    · rw [hv_set_ne (by omega), hv_set_at]
    · rw [hv_set_at]
  clear eq0
  have Y0 : ∀ q, Agr (csW w1) h q → YS B w0 q := fun q g => y0.agr g (fun k _ => by unfold csW; omega)
  have Y1 : ∀ q, Agr (csW w1) h q → YS B w1 q := fun q g => y1.agr g (fun k _ => by unfold csW; omega)
  have src : ∀ q, Agr (csW w1) h q → ∀ j k, j ≤ 13 → hv q (w0 + j) k = hv h (w0 + j) k := fun q g j k hj => g.at _ _ (by unfold csW; omega)
  refine lp 12 (fun i L q => (L = [(2, rf w0), (2, rf w1), (0, (i : Int))]) ∧ LX B n q ∧ i ≤ 12 ∧ Agr (csW w1) h q ∧ (∀ k, k < 6 → hv q w1 k = hv h w0 k) ∧ ∀ j k, 1 ≤ j → j ≤ 2 → k < i → hv q (w1 + j) k = hv h (w0 + j) k) ?_ ?_ 0 ⟨rfl, l0, by decide, g0, f0, fun j k _ _ hk => absurd hk (by omega)⟩
  · rintro i _ q hi ⟨rfl, lq, -, gq, fq, aq⟩ ih
    have S0 := Y0 q gq
    have S1 := Y1 q gq
    refine Ends.eq (b877_50 (n := n) (by (repeat' first | assumption | refine LX.setF _ _ ?_ (by decide +kernel) | refine LX.setS ?_ rfl | refine LX.setA ?_ (by first | assumption | omega))) (by first | assumption | omega) (by first | assumption | omega) (by first | assumption | omega)) ?_
    rw [tn, an0, an0, hv_na (by omega), w_succ (by omega)]
    refine Ends.b3 (fun z => by omega) (fun _ => Ends.g ⟨by omega, by omega⟩ ?_)
    refine ih _ _ ⟨rfl, lx_na (lx_na lq (by omega)) (by omega), hi, (gq.set (Or.inr ⟨by omega, by omega⟩)).set (Or.inr ⟨by omega, by omega⟩), fun k hk => by rw [hv_na (by omega), hv_na (by omega)]; exact fq k hk, fun j k h1 h2 hk => ?_⟩
    have hj : j = 1 ∨ j = 2 := by omega
    by_cases e : k = i
    · subst e
      rcases hj with rfl | rfl
      · rw [hv_na (by omega), hv_set_at]; exact src q gq 1 k (by decide)
      · rw [hv_set_at]; exact src q gq 2 k (by decide)
    · rw [hv_set_ne (by omega), hv_set_ne (by omega)]; exact aq j k h1 h2 (by omega)
  rintro i _ q hi ⟨rfl, lq, hi2, gq, fq, aq⟩
  obtain rfl : i = 12 := by omega
  have S0 := Y0 q gq
  have S1 := Y1 q gq
  refine Ends.eq (b877_50 (n := n) (by (repeat' first | assumption | refine LX.setF _ _ ?_ (by decide +kernel) | refine LX.setS ?_ rfl | refine LX.setA ?_ (by first | assumption | omega))) (by first | assumption | omega) (by first | assumption | omega) (by first | assumption | omega)) ?_
  refine Ends.b3 (fun _ => ?_) (fun z => absurd z (by decide))
  refine lp 24 (fun i L q => (L = [(2, rf w0), (2, rf w1), (0, (i : Int))]) ∧ LX B n q ∧ i ≤ 24 ∧ Agr (csW w1) h q ∧ (∀ k, k < 6 → hv q w1 k = hv h w0 k) ∧ (∀ j k, 1 ≤ j → j ≤ 2 → k < 12 → hv q (w1 + j) k = hv h (w0 + j) k) ∧ ∀ j k, 3 ≤ j → j ≤ 5 → k < i → hv q (w1 + j) k = hv h (w0 + j) k) ?_ ?_ 0 ⟨rfl, lq, by decide, gq, fq, aq, fun j k _ _ hk => absurd hk (by omega)⟩
  · clear lq gq fq aq S0 S1
    rintro i _ q hi ⟨rfl, lq, -, gq, fq, aq, bq⟩ ih
    have S0 := Y0 q gq
    have S1 := Y1 q gq
    refine Ends.eq (b877_88 (n := n) (by (repeat' first | assumption | refine LX.setF _ _ ?_ (by decide +kernel) | refine LX.setS ?_ rfl | refine LX.setA ?_ (by first | assumption | omega))) (by first | assumption | omega) (by first | assumption | omega) (by first | assumption | omega)) ?_
    rw [tn, an0, an0, hv_na (by omega), hv_na (by omega), hv_na (by omega), src q gq 5 i (by decide), an3 (T1 i hi), w_succ (by omega)]
    refine Ends.b3 (fun z => by omega) (fun _ => Ends.g ⟨by omega, by omega⟩ ?_)
    refine ih _ _ ⟨rfl, lx_na (lx_na (lx_na lq (by omega)) (by omega)) (by omega), hi, ((gq.set (Or.inr ⟨by omega, by omega⟩)).set (Or.inr ⟨by omega, by omega⟩)).set (Or.inr ⟨by omega, by omega⟩), fun k hk => by rw [hv_na (by omega), hv_na (by omega), hv_na (by omega)]; exact fq k hk, fun j k h1 h2 hk => by rw [hv_na (by omega), hv_na (by omega), hv_na (by omega)]; exact aq j k h1 h2 hk, fun j k h1 h2 hk => ?_⟩
    have hj : j = 3 ∨ j = 4 ∨ j = 5 := by omega
    by_cases e : k = i
    · subst e
      rcases hj with rfl | rfl | rfl
      · rw [hv_na (by omega), hv_na (by omega), hv_set_at]; exact src q gq 3 k (by decide)
      · rw [hv_na (by omega), hv_set_at]; exact src q gq 4 k (by decide)
      · rw [hv_set_at]
    · rw [hv_set_ne (by omega), hv_set_ne (by omega), hv_set_ne (by omega)]; exact bq j k h1 h2 (by omega)
  clear lq gq fq aq S0 S1
  rintro i _ q hi ⟨rfl, lq, hi2, gq, fq, aq, bq⟩
  obtain rfl : i = 24 := by omega
  have S0 := Y0 q gq
  have S1 := Y1 q gq
  refine Ends.eq (b877_88 (n := n) (by (repeat' first | assumption | refine LX.setF _ _ ?_ (by decide +kernel) | refine LX.setS ?_ rfl | refine LX.setA ?_ (by first | assumption | omega))) (by first | assumption | omega) (by first | assumption | omega) (by first | assumption | omega)) ?_
  refine Ends.b3 (fun _ => ?_) (fun z => absurd z (by decide))
  refine lp 6 (fun i L q => (L = [(2, rf w0), (2, rf w1), (0, (i : Int))]) ∧ LX B n q ∧ i ≤ 6 ∧ Agr (csW w1) h q ∧ (∀ k, k < 6 → hv q w1 k = hv h w0 k) ∧ (∀ j k, 1 ≤ j → j ≤ 2 → k < 12 → hv q (w1 + j) k = hv h (w0 + j) k) ∧ (∀ j k, 3 ≤ j → j ≤ 5 → k < 24 → hv q (w1 + j) k = hv h (w0 + j) k) ∧ ∀ j k, 6 ≤ j → j ≤ 7 → k < i → hv q (w1 + j) k = hv h (w0 + j) k) ?_ ?_ 0 ⟨rfl, lq, by decide, gq, fq, aq, bq, fun j k _ _ hk => absurd hk (by omega)⟩
  · clear lq gq fq aq bq S0 S1
    rintro i _ q hi ⟨rfl, lq, -, gq, fq, aq, bq, cq⟩ ih
    have S0 := Y0 q gq
    have S1 := Y1 q gq
    refine Ends.eq (b877_138 (n := n) (by (repeat' first | assumption | refine LX.setF _ _ ?_ (by decide +kernel) | refine LX.setS ?_ rfl | refine LX.setA ?_ (by first | assumption | omega))) (by first | assumption | omega) (by first | assumption | omega) (by first | assumption | omega)) ?_
    rw [tn, an0, hv_na (by omega), src q gq 6 i (by decide), src q gq 7 i (by decide)]
    refine Ends.b3 (fun z => by omega) (fun _ => Ends.g ⟨by omega, by omega⟩ (Ends.g ⟨⟨by omega, by omega⟩, ((T3 i hi).agr gq).ro⟩ ?_))
    have l2 : LX B n (hset (hset q (w1 + 6) i (hv h (w0 + 6) i)) (w1 + 7) i (hv h (w0 + 7) i)) := lx_na (lx_na lq (by omega)) (by omega)
    have g2 : Agr (csW w1) h (hset (hset q (w1 + 6) i (hv h (w0 + 6) i)) (w1 + 7) i (hv h (w0 + 7) i)) := (gq.set (Or.inr ⟨by omega, by omega⟩)).set (Or.inr ⟨by omega, by omega⟩)
    have S0 := Y0 _ g2
    have S1 := Y1 _ g2
    refine Ends.eq (b877_168 (n := n) (by (repeat' first | assumption | refine LX.setF _ _ ?_ (by decide +kernel) | refine LX.setS ?_ rfl | refine LX.setA ?_ (by first | assumption | omega))) (by first | assumption | omega)) ?_
    rw [w_succ (by omega)]
    refine ih _ _ ⟨rfl, l2, hi, g2, fun k hk => by rw [hv_na (by omega), hv_na (by omega)]; exact fq k hk, fun j k h1 h2 hk => by rw [hv_na (by omega), hv_na (by omega)]; exact aq j k h1 h2 hk, fun j k h1 h2 hk => by rw [hv_na (by omega), hv_na (by omega)]; exact bq j k h1 h2 hk, fun j k h1 h2 hk => ?_⟩
    have hj : j = 6 ∨ j = 7 := by omega
    by_cases e : k = i
    · subst e
      rcases hj with rfl | rfl
      · rw [hv_na (by omega), hv_set_at]
      · rw [hv_set_at]
    · rw [hv_set_ne (by omega), hv_set_ne (by omega)]; exact cq j k h1 h2 (by omega)
  clear lq gq fq aq bq S0 S1
  rintro i _ q hi ⟨rfl, lq, hi2, gq, fq, aq, bq, cq⟩
  obtain rfl : i = 6 := by omega
  have S0 := Y0 q gq
  have S1 := Y1 q gq
  refine Ends.eq (b877_138 (n := n) (by (repeat' first | assumption | refine LX.setF _ _ ?_ (by decide +kernel) | refine LX.setS ?_ rfl | refine LX.setA ?_ (by first | assumption | omega))) (by first | assumption | omega) (by first | assumption | omega) (by first | assumption | omega)) ?_
  refine Ends.b3 (fun _ => ?_) (fun z => absurd z (by decide))
  refine lp 32 (fun i L q => (L = [(2, rf w0), (2, rf w1), (0, (i : Int))]) ∧ LX B n q ∧ i ≤ 32 ∧ Agr (csW w1) h q ∧ (∀ k, k < 6 → hv q w1 k = hv h w0 k) ∧ (∀ j k, 1 ≤ j → j ≤ 2 → k < 12 → hv q (w1 + j) k = hv h (w0 + j) k) ∧ (∀ j k, 3 ≤ j → j ≤ 5 → k < 24 → hv q (w1 + j) k = hv h (w0 + j) k) ∧ (∀ j k, 6 ≤ j → j ≤ 7 → k < 6 → hv q (w1 + j) k = hv h (w0 + j) k) ∧ ∀ j k, 8 ≤ j → j ≤ 13 → k < i → hv q (w1 + j) k = hv h (w0 + j) k) ?_ ?_ 0 ⟨rfl, lq, by decide, gq, fq, aq, bq, cq, fun j k _ _ hk => absurd hk (by omega)⟩
  · clear lq gq fq aq bq cq S0 S1
    rintro i _ q hi ⟨rfl, lq, -, gq, fq, aq, bq, cq, dq⟩ ih
    have S0 := Y0 q gq
    have S1 := Y1 q gq
    refine Ends.eq (b877_176 (n := n) (by (repeat' first | assumption | refine LX.setF _ _ ?_ (by decide +kernel) | refine LX.setS ?_ rfl | refine LX.setA ?_ (by first | assumption | omega))) (by first | assumption | omega) (by first | assumption | omega) (by first | assumption | omega)) ?_
    have n1 : ∀ j j' : Nat, j ≤ 13 → j' ≤ 13 → w0 + j ≠ w1 + j' := fun j j' h1 h2 => by omega
    simp only [tn, an0, hv_na (n1 9 8 (by decide) (by decide)), hv_na (n1 10 8 (by decide) (by decide)), hv_na (n1 10 9 (by decide) (by decide)), hv_na (n1 11 8 (by decide) (by decide)), hv_na (n1 11 9 (by decide) (by decide)), hv_na (n1 11 10 (by decide) (by decide)), hv_na (n1 12 8 (by decide) (by decide)), hv_na (n1 12 9 (by decide) (by decide)), hv_na (n1 12 10 (by decide) (by decide)), hv_na (n1 12 11 (by decide) (by decide)), hv_na (n1 13 8 (by decide) (by decide)), hv_na (n1 13 9 (by decide) (by decide)), hv_na (n1 13 10 (by decide) (by decide)), hv_na (n1 13 11 (by decide) (by decide)), hv_na (n1 13 12 (by decide) (by decide)), src q gq 8 i (by decide), src q gq 9 i (by decide), src q gq 10 i (by decide), src q gq 11 i (by decide), src q gq 12 i (by decide), src q gq 13 i (by decide), an3 (T2 i hi)]
    refine Ends.b3 (fun z => by omega) (fun _ => Ends.g ⟨by omega, by omega⟩ (Ends.g ⟨⟨by omega, by omega⟩, ((T4 i hi).agr gq).ro⟩ ?_))
    generalize eq2 : hset (hset (hset (hset (hset (hset q (w1 + 8) i (hv h (w0 + 8) i)) (w1 + 9) i (hv h (w0 + 9) i)) (w1 + 10) i (hv h (w0 + 10) i)) (w1 + 11) i (hv h (w0 + 11) i)) (w1 + 12) i (hv h (w0 + 12) i)) (w1 + 13) i (hv h (w0 + 13) i) = q2
    have l2 : LX B n q2 := by rw [← eq2]; exact lx_na (lx_na (lx_na (lx_na (lx_na (lx_na lq (by omega)) (by omega)) (by omega)) (by omega)) (by omega)) (by omega)
    have gs : Agr (fun c k => w1 + 8 ≤ c ∧ c ≤ w1 + 13 ∧ k = i) q q2 := by
      rw [← eq2]
      exact (((((Agr.rf.set ⟨by omega, by omega, rfl⟩).set ⟨by omega, by omega, rfl⟩).set ⟨by omega, by omega, rfl⟩).set ⟨by omega, by omega, rfl⟩).set ⟨by omega, by omega, rfl⟩).set ⟨by omega, by omega, rfl⟩
    have g2 : Agr (csW w1) h q2 := gq.tr gs (fun c k w => Or.inr ⟨by omega, by omega⟩)
    have now : ∀ j, 8 ≤ j → j ≤ 13 → hv q2 (w1 + j) i = hv h (w0 + j) i := fun j h1 h2 => by
      rw [← eq2]
      have hj : j = 8 ∨ j = 9 ∨ j = 10 ∨ j = 11 ∨ j = 12 ∨ j = 13 := by omega
      rcases hj with rfl | rfl | rfl | rfl | rfl | rfl
      · rw [hv_na (by omega), hv_na (by omega), hv_na (by omega), hv_na (by omega), hv_na (by omega), hv_set_at]
      · rw [hv_na (by omega), hv_na (by omega), hv_na (by omega), hv_na (by omega), hv_set_at]
      · rw [hv_na (by omega), hv_na (by omega), hv_na (by omega), hv_set_at]
      · rw [hv_na (by omega), hv_na (by omega), hv_set_at]
      · rw [hv_na (by omega), hv_set_at]
      · rw [hv_set_at]
    clear eq2
    have S0 := Y0 _ g2
    have S1 := Y1 _ g2
    refine Ends.eq (b877_254 (n := n) (by (repeat' first | assumption | refine LX.setF _ _ ?_ (by decide +kernel) | refine LX.setS ?_ rfl | refine LX.setA ?_ (by first | assumption | omega))) (by first | assumption | omega)) ?_
    rw [w_succ (by omega)]
    refine ih _ _ ⟨rfl, l2, hi, g2, fun k hk => by rw [gs.at _ _ (by omega)]; exact fq k hk, fun j k h1 h2 hk => by rw [gs.at _ _ (by omega)]; exact aq j k h1 h2 hk, fun j k h1 h2 hk => by rw [gs.at _ _ (by omega)]; exact bq j k h1 h2 hk, fun j k h1 h2 hk => by rw [gs.at _ _ (by omega)]; exact cq j k h1 h2 hk, fun j k h1 h2 hk => ?_⟩
    by_cases e : k = i
    · subst e; exact now j h1 h2
    · rw [gs.at _ _ (by omega)]; exact dq j k h1 h2 (by omega)
  clear lq gq fq aq bq cq S0 S1
  rintro i _ q hi ⟨rfl, lq, hi2, gq, fq, aq, bq, cq, dq⟩
  obtain rfl : i = 32 := by omega
  have S0 := Y0 q gq
  have S1 := Y1 q gq
  refine Ends.eq (b877_176 (n := n) (by (repeat' first | assumption | refine LX.setF _ _ ?_ (by decide +kernel) | refine LX.setS ?_ rfl | refine LX.setA ?_ (by first | assumption | omega))) (by first | assumption | omega) (by first | assumption | omega) (by first | assumption | omega)) ?_
  refine Ends.b3 (fun _ => ?_) (fun z => absurd z (by decide))
  refine Ends.sm ⟨_, rfl, gq, fq, fun j k h1 h2 hk => ?_⟩
  unfold skL at hk
  by_cases j2 : j ≤ 2
  · rw [if_pos j2] at hk; exact aq j k h1 j2 hk
  rw [if_neg j2] at hk
  by_cases j5 : j ≤ 5
  · rw [if_pos j5] at hk; exact bq j k (by omega) j5 hk
  rw [if_neg j5] at hk
  by_cases j7 : j ≤ 7
  · rw [if_pos j7] at hk; exact cq j k (by omega) j7 hk
  rw [if_neg j7] at hk
  exact dq j k (by omega) h2 hk
end CPY
