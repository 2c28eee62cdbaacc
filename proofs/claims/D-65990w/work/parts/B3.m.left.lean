/-! L3: what a tool leaves: the model; the desk's calls of paths -/
section MLE
variable {gv : Nat → Int} {B n d r z N : Nat} {h : AH} {is : Nat → Bool} {S : Nat → Nat → Bool} {o : Int} {pa cap : Nat} {fr to at_ : Nat → Nat}
/-- is column k under one of the first i runs -/
def unKA (n r : Nat) (fr to at_ : Nat → Nat) : Nat → Nat → Bool
  | 0, _ => false
  | i + 1, k => unKA n r fr to at_ i k || unK n r (min (fr i) (to i)) (max (fr i) (to i)) (at_ i) k
theorem unKA_g {g : Nat} (hg : g < gN n) : ∀ i, unKA n r fr to at_ i (g % (24 * n * n)) = unA r fr to at_ i (quT 2 (gSo g)) (gY n g) (gX n g)
  | 0 => rfl
  | i + 1 => by
    obtain ⟨c1, c2, c3, c4⟩ := g_col hg
    obtain ⟨hn0, hx, hy, hz', ht⟩ := g_lt hg
    show (unKA n r fr to at_ i (g % (24 * n * n)) || unK n r (min (fr i) (to i)) (max (fr i) (to i)) (at_ i) (g % (24 * n * n))) = (unA r fr to at_ i (quT 2 (gSo g)) (gY n g) (gX n g) || unR r (fr i) (to i) (at_ i) (quT 2 (gSo g)) (gY n g) (gX n g))
    rw [unKA_g hg i]
    unfold unK kU kV
    rw [c1, c2, c3, unM_q ht]
    rfl
/-- what a path's tool takes -/
def tkG (n r z N : Nat) (fr to at_ : Nat → Nat) (g : Nat) : Bool := prG n (unA r fr to at_ N) 2 (z : Int) (n : Int) g
theorem tkG_is {g : Nat} (hg : g < gN n) : tkG n r z N fr to at_ g = (unKA n r fr to at_ N (g % (24 * n * n)) && decide (8 * z < g8 n g 2)) := by
  obtain ⟨hn0, hx, hy, hz', ht⟩ := g_lt hg
  have r2 := rT_lt ⟨gSo g, ht⟩ 2
  have r2 : 1 ≤ rT (gSo g) 2 ∧ rT (gSo g) 2 < 8 := r2
  have e8 : g8 n g 2 = 8 * gZ n g + rT (gSo g) 2 := rfl
  show (decide ((z : Int) ≤ (gZ n g : Int) ∧ (gZ n g : Int) < (n : Int)) && unA r fr to at_ N (quT 2 (gSo g)) (gY n g) (gX n g)) = _
  rw [unKA_g hg N, Bool.and_comm]
  congr 1
  rw [decide_eq_decide, e8]
  omega
def lfW (B n f : Nat) : Nat → Nat → Prop := fun c k => (c = B + 149 ∧ (k = 0 ∨ k = 86)) ∨ c = B + 241 ∨ wto B n 13 (wN n) c k ∨ wto B n f (wN n) c k ∨ (c = B + 193 ∧ k = f)
theorem lf_c {p q : Bool} : (cond (tst 0 (if p = true then (0 : Int) else 1) 0) (cond (tst 3 (if q = true then (0 : Int) else -1) 0) (0 : Int) 2) 1) = if p = true then if q = true then 0 else 2 else 1 := by cases p <;> cases q <;> rfl
theorem c_left730 (l : LX B n h) (hd : 16 ≤ d) (hn : n ≤ 52) (hr : r ≤ 8) (hz : z ≤ n) (m : TbM B h) (b : BdM B n h is S) (p : RnM B h n r z N fr to at_ pa cap) :
    Vt 0 (cll PP (ev PP (gsF gv) B) d 730 [(2, rf (B + 149)), (0, o)] h) (fun v h' => (thS is o = false ∧ MdA B h 1 v h') ∨ (thS is o = true ∧ ¬ frB is 10 < 10 ∧ MdA B h 2 v h') ∨ (thS is o = true ∧ frB is 10 < 10 ∧ v = (frB is 10 : Int) ∧ hv h' (B + 149) 0 = 0 ∧ MB B n h' (frB is 10) (fun g => S (rwS o) g && !tkG n r z N fr to at_ g) ∧ hv h' (B + 193) (frB is 10) = 1 ∧ hv h' (B + 149) 86 = -1 ∧ Agr (lfW B n (frB is 10)) h h')) := by
  have hb0 := l.2.2
  refine Vt.inq (D := 15) hd (Nat.le_of_ble_eq_true rfl) rfl (fun d hd P K => ?_)
  refine Ends.eq (b730_0 (n := n) (by (repeat' first | assumption | refine LX.setF _ _ ?_ (by decide +kernel) | refine LX.setS ?_ rfl | refine LX.setA ?_ (by first | assumption | omega))) (by first | assumption | omega)) ?_
  obtain ⟨q5, e5⟩ := v765_is (o := o) (fun i hi => (b.1 i hi).1)
  refine Ends.g q5 ?_
  rw [e5]
  cases hs : thS is o
  · refine Ends.b0 (fun z => absurd z (by decide)) (fun _ => ?_)
    refine Ends.eq (b730_25 (n := n) (by (repeat' first | assumption | refine LX.setF _ _ ?_ (by decide +kernel) | refine LX.setS ?_ rfl | refine LX.setA ?_ (by first | assumption | omega))) (by first | assumption | omega)) ?_
    refine Ends.mbad l (by omega) (c := 1) (by decide) rfl ?_
    have l1 : LX B n (hset h (B + 149) 0 ((1 : Nat) : Int)) := LX.setF 149 0 l (by decide +kernel)
    exact Ends.eq (b730_28 (n := n) l1 (by omega)) (Ends.b0 (fun z => absurd z (by decide)) (fun _ => Ends.sm (K _ _ (Or.inl ⟨hs, rfl, rfl⟩))))
  refine Ends.b0 (fun _ => ?_) (fun z => absurd rfl z)
  refine Ends.ct l (by decide +kernel) (by decide) (c_free650 l (by omega) (fun i hi => (b.1 i hi).1)) (fun x q l0 _ _ _ ⟨e1, ex⟩ => ?_)
  rw [e1, ex]
  refine Ends.eq (b730_17 (n := n) (by (repeat' first | assumption | refine LX.setF _ _ ?_ (by decide +kernel) | refine LX.setS ?_ rfl | refine LX.setA ?_ (by first | assumption | omega))) (by first | assumption | omega)) ?_
  refine Ends.eq (b730_25 (n := n) (by (repeat' first | assumption | refine LX.setF _ _ ?_ (by decide +kernel) | refine LX.setS ?_ rfl | refine LX.setA ?_ (by first | assumption | omega))) (by first | assumption | omega)) ?_
  by_cases hf : frB is 10 < 10
  rotate_left
  · rw [if_neg hf]
    refine Ends.mbad l (by omega) (c := 2) (by decide) rfl ?_
    have l1 : LX B n (hset h (B + 149) 0 ((2 : Nat) : Int)) := LX.setF 149 0 l (by decide +kernel)
    exact Ends.eq (b730_28 (n := n) l1 (by omega)) (Ends.b0 (fun z => absurd z (by decide)) (fun _ => Ends.sm (K _ _ (Or.inr (Or.inl ⟨hs, hf, rfl, rfl⟩)))))
  rw [if_pos hf, ct3, if_neg (by omega)]
  refine Ends.mok l (by omega) rfl ?_
  have l1 : LX B n (hset h (B + 149) 0 0) := LX.setF 149 0 l (by decide +kernel)
  have g1 : Agr (fun c k => c = B + 149 ∧ k = 0) h (hset h (B + 149) 0 0) := Agr.rf.set ⟨rfl, rfl⟩
  have b1 := b.fset 0 0
  have m1 : TbM B (hset h (B + 149) 0 0) := m.agr g1 (fun c k h1 h2 h3 w => by omega)
  have pp := p.1.2.2.1
  have p1 := p.agr g1 (fun k h1 h2 w => by omega) (fun k w => by omega)
  have z1 : hv (hset h (B + 149) 0 0) (B + 149) 0 = 0 := hv_set_at ..
  generalize hset h (B + 149) 0 0 = h1 at *
  obtain ⟨mb, rw11⟩ := b1.sol hs
  have n4 := p.2.2.2.1
  have c24' := c24 hn
  have n24' := n24 hn
  refine Ends.eq (b730_28 (n := n) l1 (by omega)) (Ends.b0 (fun _ => ?_) (fun z => absurd rfl z))
  rw [v806_is hs]
  refine Ends.cv l1 (by decide +kernel) (c_copyM (s := rwS o) (t := 13) l1 (by omega) hn (by omega) (by decide) mb) (fun h2 l2 _ _ _ ⟨g2, mb2⟩ => ?_)
  have nw : ∀ {c k : Nat}, wto B n 13 (wN n) c k → c = B + 236 := fun w => w.1
  have m2 : TbM B h2 := m1.agr g2 (fun c k a1 a2 a3 w => by have := nw w; omega)
  have p2 := p1.agr g2 (fun k h1 h2 w => by have := nw w; omega) (fun k w => by have := nw w; have := p.1.2.2.1; have := p.1.2.2.2.1; omega)
  refine Ends.eq (b730_43 (n := n) l2 (by omega)) ?_
  -- all grains
  have last : ∀ (h3 : AH) (x2 : Int), LX B n h3 → TbM B h3 → Agr (fun c _ => c = B + 241) h2 h3 → ShM B n h3 (unKA n r fr to at_ N) → ∀ (c g : Nat) (q : AH), g + c = gN n → LX B n q → Agr (wto B n 13 (wN n)) h3 q → MB B n q 13 (fun x => S (rwS o) x && !(decide (x < g) && tkG n r z N fr to at_ x)) → Ends (ev PP (gsF gv) B d 730 99 [(2, rf (B + 149)), (0, o), (0, x2), (0, (g : Int))] [] q) P := by
    intro h3 x2 l3 m3 g3 s3 c
    induction c with
    | zero =>
      intro g q hg lq gq mq
      obtain rfl : g = gN n := by omega
      refine Ends.eq (b730_99 (n := n) (by (repeat' first | assumption | refine LX.setF _ _ ?_ (by decide +kernel) | refine LX.setS ?_ rfl | refine LX.setA ?_ (by first | assumption | omega))) (by first | assumption | omega)) ?_
      refine Ends.b3 (fun _ => ?_) (fun z => by omega)
      have mf : MB B n q 13 (fun g => S (rwS o) g && !tkG n r z N fr to at_ g) := mq.congr (fun x hx => by show (S (rwS o) x && !(decide (x < gN n) && tkG n r z N fr to at_ x)) = (S (rwS o) x && !tkG n r z N fr to at_ x); rw [decide_eq_true hx, Bool.true_and])
      have bq : ∀ i, i < 10 → hv q (B + 193) i = (if is i = true then 1 else 0) := fun i hi => by
        rw [gq.at _ _ (fun w => by have := nw w; omega), g3.at _ _ (by omega), g2.at _ _ (fun w => by have := nw w; omega)]
        exact (b1.1 i hi).1
      refine Ends.ct lq (by decide +kernel) (by decide) (c_made738 (r := 13) lq (by omega) hn bq hf (by decide) mf) (fun v h4 l4 _ _ _ ⟨ev_, mb4, e193, e86, g4⟩ => ?_)
      refine Ends.eq (b730_174 (n := n) (by (repeat' first | assumption | refine LX.setF _ _ ?_ (by decide +kernel) | refine LX.setS ?_ rfl | refine LX.setA ?_ (by first | assumption | omega))) (by first | assumption | omega)) ?_
      refine Ends.sm (K _ _ (Or.inr (Or.inr ⟨hs, hf, ev_, ?_, mb4, e193, e86, ?_⟩)))
      · rw [g4.at _ _ (fun w => by rcases w with w | w | w; have := w.1; omega; omega; omega), gq.at _ _ (fun w => by have := nw w; omega), g3.at _ _ (by omega), g2.at _ _ (fun w => by have := nw w; omega)]
        exact z1
      · have G1 : Agr (lfW B n (frB is 10)) h h1 := g1.sub (fun c k w => Or.inl ⟨w.1, Or.inl w.2⟩)
        have G2 := G1.tr g2 (fun c k w => Or.inr (Or.inr (Or.inl w)))
        have G3 := G2.tr g3 (fun c k w => Or.inr (Or.inl w))
        have G4 := G3.tr gq (fun c k w => Or.inr (Or.inr (Or.inl w)))
        exact G4.tr g4 (fun c k w => by
          rcases w with w | w | w
          · exact Or.inr (Or.inr (Or.inr (Or.inl w)))
          · exact Or.inr (Or.inr (Or.inr (Or.inr w)))
          · exact Or.inl ⟨w.1, Or.inr w.2⟩)
    | succ c ih =>
      intro g q hg lq gq mq
      have hgn : g < gN n := by omega
      have gle := gN_le hn
      obtain ⟨hn0, hx, hy, hz', ht⟩ := g_lt hgn
      have pos : 0 < 24 * n * n := Nat.mul_pos (Nat.mul_pos (by decide) hn0) hn0
      have mt : TbM B q := m3.agr gq (fun c k a1 a2 a3 w => by have := nw w; omega)
      obtain ⟨h1', h2'⟩ : q669 B n q (13 : Int) (g : Int) ∧ v669 B n q (13 : Int) (g : Int) = if (S (rwS o) g && !(decide (g < g) && tkG n r z N fr to at_ g)) = true then 1 else 0 := has_is (s := 13) mq (by decide) hn hgn
      obtain ⟨k1, k2⟩ : q581 B n q (g : Int) (2 : Int) ∧ v581 B n q (g : Int) (2 : Int) = ((g8 n g 2 : Nat) : Int) := coord_is mt hn hgn (a := 2) (by decide)
      have c4 := (g_col hgn).2.2.2
      have tk := tkG_is (n := n) (r := r) (z := z) (N := N) (fr := fr) (to := to) (at_ := at_) hgn
      have e241 : hv q (B + 241) (g % (24 * n * n)) = if unKA n r fr to at_ N (g % (24 * n * n)) = true then 1 else 0 := by rw [gq.at _ _ (fun w => by have := nw w; omega)]; exact s3 _ c4
      have e162 : hv q (B + 149) 162 = (z : Int) := by rw [gq.at _ _ (fun w => by have := nw w; omega), g3.at _ _ (by omega)]; exact p2.2.2.1
      -- what a step leaves
      have go : ∀ (q' : AH), LX B n q' → Agr (wto B n 13 (wN n)) h3 q' → MB B n q' 13 (fun x => S (rwS o) x && !(decide (x < g + 1) && tkG n r z N fr to at_ x)) → Ends (ev PP (gsF gv) B d 730 162 [(2, rf (B + 149)), (0, o), (0, x2), (0, (g : Int))] [] q') P := fun q' l' g' m' => by
        refine Ends.eq (b730_162 (n := n) (by (repeat' first | assumption | refine LX.setF _ _ ?_ (by decide +kernel) | refine LX.setS ?_ rfl | refine LX.setA ?_ (by first | assumption | omega))) (by first | assumption | omega)) ?_
        rw [w_succ (by omega)]
        exact ih (g + 1) q' (by omega) l' g' m'
      have skip : (S (rwS o) g && tkG n r z N fr to at_ g) = false → Ends (ev PP (gsF gv) B d 730 162 [(2, rf (B + 149)), (0, o), (0, x2), (0, (g : Int))] [] q) P := fun w => go q lq gq (mq.congr (fun x _ => by
        show (S (rwS o) x && !(decide (x < g) && tkG n r z N fr to at_ x)) = (S (rwS o) x && !(decide (x < g + 1) && tkG n r z N fr to at_ x))
        by_cases e : x = g
        · rw [e, decide_eq_false (Nat.lt_irrefl g), decide_eq_true (Nat.lt_succ_self g), Bool.false_and, Bool.true_and]
          revert w
          cases S (rwS o) g <;> cases tkG n r z N fr to at_ g <;> simp
        · rw [show decide (x < g + 1) = decide (x < g) from by rw [decide_eq_decide]; omega]))
      refine Ends.eq (b730_99 (n := n) (by (repeat' first | assumption | refine LX.setF _ _ ?_ (by decide +kernel) | refine LX.setS ?_ rfl | refine LX.setA ?_ (by first | assumption | omega))) (by first | assumption | omega)) ?_
      rw [h2', k2, c24', show bop32 112 (g : Int) ((24 * n * n : Nat) : Int) = ((g % (24 * n * n) : Nat) : Int) from modNN pos (by omega), tn, e241, e162, show bop32 104 (8 : Int) (z : Int) = ((8 * z : Nat) : Int) from mulNN (x := 8) (by omega)]
      refine Ends.b3 (fun z => by omega) (fun _ => Ends.g h1' ?_)
      rw [decide_eq_false (Nat.lt_irrefl g), Bool.false_and, Bool.not_false, Bool.and_true]
      cases hS : S (rwS o) g
      · exact Ends.b0 (fun _ => skip (by rw [hS]; rfl)) (fun z => absurd rfl z)
      refine Ends.b0 (fun z => absurd z (by decide)) (fun _ => Ends.g (by omega) (Ends.g ⟨by omega, by omega⟩ ?_))
      cases hU : unKA n r fr to at_ N (g % (24 * n * n))
      · exact Ends.b0 (fun _ => skip (by rw [tk, hU]; simp)) (fun z => absurd rfl z)
      refine Ends.b0 (fun z => absurd z (by decide)) (fun _ => Ends.g k1 ?_)
      refine Ends.b5 (fun w => skip (by rw [tk, decide_eq_false (by omega)]; simp)) (fun w => ?_)
      refine Ends.cv lq (by decide +kernel) (c_dropM (t := 13) lq (by omega) hn (by decide) mq hgn) (fun h4 l4 _ _ _ ⟨_, g4, mb4⟩ => ?_)
      refine go h4 l4 (gq.tr g4 (fun c k w => w)) (mb4.congr (fun x _ => ?_))
      show ((S (rwS o) x && !(decide (x < g) && tkG n r z N fr to at_ x)) && !decide (x = g)) = (S (rwS o) x && !(decide (x < g + 1) && tkG n r z N fr to at_ x))
      by_cases e : x = g
      · rw [e, decide_eq_false (Nat.lt_irrefl g), decide_eq_true (Nat.lt_succ_self g), tk, hU, decide_eq_true (show 8 * z < g8 n g 2 by omega)]; simp
      · rw [show decide (x < g + 1) = decide (x < g) from by rw [decide_eq_decide]; omega, decide_eq_false e]; simp
  -- all runs
  have runs : ∀ (h3 : AH), LX B n h3 → Agr (fun c _ => c = B + 241) h2 h3 → ∀ (c i : Nat) (q : AH) (x2 : Int), i + c = N → LX B n q → Agr (fun c _ => c = B + 241) h2 q → ShM B n q (unKA n r fr to at_ i) → Ends (ev PP (gsF gv) B d 730 71 [(2, rf (B + 149)), (0, o), (0, x2), (0, (i : Int))] [] q) P := by
    intro h3 l3 g3 c
    induction c with
    | zero =>
      intro i q x2 hi lq gq sq
      obtain rfl : i = N := by omega
      have pq := p2.agr gq (fun k h1 h2 w => by omega) (fun k w => by omega)
      refine Ends.eq (b730_71 (n := n) (by (repeat' first | assumption | refine LX.setF _ _ ?_ (by decide +kernel) | refine LX.setS ?_ rfl | refine LX.setA ?_ (by first | assumption | omega))) (by first | assumption | omega)) ?_
      rw [pq.1.2.2.2.2.1, show bop32 108 ((4 * i : Nat) : Int) 4 = (i : Int) from by rw [show bop32 108 ((4 * i : Nat) : Int) 4 = ((4 * i / 4 : Nat) : Int) from divNN (y := 4) (by omega) (by decide)]; omega]
      refine Ends.b3 (fun _ => ?_) (fun z => by omega)
      have mq : MB B n q 13 (S (rwS o)) := mb2.agr gq (fun k hk w => by omega)
      exact last q x2 lq (m2.agr gq (fun c k a1 a2 a3 w => by omega)) gq sq (gN n) 0 q (by omega) lq Agr.rf (mq.congr (fun x _ => by simp))
    | succ c ih =>
      intro i q x2 hi lq gq sq
      have hiN : i < N := by omega
      have pq := p2.agr gq (fun k h1 h2 w => by omega) (fun k w => by omega)
      have mq : TbM B q := m2.agr gq (fun c k a1 a2 a3 w => by omega)
      refine Ends.eq (b730_71 (n := n) (by (repeat' first | assumption | refine LX.setF _ _ ?_ (by decide +kernel) | refine LX.setS ?_ rfl | refine LX.setA ?_ (by first | assumption | omega))) (by first | assumption | omega)) ?_
      rw [pq.1.2.2.2.2.1, show bop32 108 ((4 * N : Nat) : Int) 4 = (N : Int) from by rw [show bop32 108 ((4 * N : Nat) : Int) 4 = ((4 * N / 4 : Nat) : Int) from divNN (y := 4) (by omega) (by decide)]; omega]
      refine Ends.b3 (fun z => by omega) (fun _ => ?_)
      refine Ends.ct lq (by decide +kernel) (by decide) (c_run660 (mk := true) (i := i) lq (by omega) hn hr mq pq sq hiN) (fun v h5 l5 _ _ _ ⟨g5, s5, _, _⟩ => ?_)
      refine Ends.eq (b730_90 (n := n) (by (repeat' first | assumption | refine LX.setF _ _ ?_ (by decide +kernel) | refine LX.setS ?_ rfl | refine LX.setA ?_ (by first | assumption | omega))) (by first | assumption | omega)) ?_
      rw [w_succ (by omega)]
      exact ih (i + 1) h5 _ (by omega) l5 (gq.tr g5 (fun c k w => w)) (s5.congr (fun k _ => by rw [Bool.true_and]; rfl))
  have clr : ∀ (c k : Nat) (q : AH) (u : AV), k + c = 24 * n * n → LX B n q → Agr (fun c _ => c = B + 241) h2 q → (∀ j, j < k → hv q (B + 241) j = 0) → Ends (ev PP (gsF gv) B d 730 45 [(2, rf (B + 149)), (0, o), (0, (k : Int)), u] [] q) P := by
    intro c
    induction c with
    | zero =>
      intro k q u hk lq gq lo
      obtain rfl : k = 24 * n * n := by omega
      refine Ends.eq (b730_45 (n := n) (by (repeat' first | assumption | refine LX.setF _ _ ?_ (by decide +kernel) | refine LX.setS ?_ rfl | refine LX.setA ?_ (by first | assumption | omega))) (by first | assumption | omega)) ?_
      refine Ends.b3 (fun _ => ?_) (fun z => by omega)
      exact runs q lq gq N 0 q 0 (by omega) lq gq (fun j hj => by rw [lo j hj]; rfl)
    | succ c ih =>
      intro k q u hk lq gq lo
      refine Ends.eq (b730_45 (n := n) (by (repeat' first | assumption | refine LX.setF _ _ ?_ (by decide +kernel) | refine LX.setS ?_ rfl | refine LX.setA ?_ (by first | assumption | omega))) (by first | assumption | omega)) ?_
      rw [w_succ (by omega), tn, an3 (Or.inl rfl)]
      refine Ends.b3 (fun z => by omega) (fun _ => Ends.g ⟨by omega, by omega⟩ ?_)
      refine ih (k + 1) _ u (by omega) (LX.setS lq rfl) (gq.set rfl) (fun j hj => ?_)
      by_cases e : j = k
      · rw [e]; exact hv_set_at ..
      · rw [hv_set_ne (by omega)]; exact lo j (by omega)
  exact clr (24 * n * n) 0 h2 _ (by omega) l2 Agr.rf (fun j hj => absurd hj (by omega))
end MLE
section DPT
variable {gv : Nat → Int} {B n d : Nat} {h : AH} {is : Nat → Bool} {cl : Nat → Nat} {S : Nat → Nat → Bool} {o r z w k a : Int} {N : Nat} {fr to at_ : Nat → Nat}
theorem dpa_c : (cond (tst 0 (v42 r 1 8) 0) (0 : Int) (cond (tst 0 (v42 z 0 (n : Int)) 0) 0 (cond (tst 0 (v42 w 1 576) 0) 0 1))) = if paOK n r z w = true then 1 else 0 := by
  rw [v42_in, v42_in, v42_in]
  unfold paOK
  simp only [ct0, decide_eq_true_eq]
  grind
theorem sol_246 (R : Reg B n h) {c : Nat} (sc : Scr B h c) : B + 246 ≤ c := by
  obtain ⟨k, hk, e⟩ := sc
  have := R.1 (10 + k) (by omega)
  rw [rgV_s hk, e] at this
  rcases this with y | ⟨a, y1, y2, _⟩
  · have := rf_pos c; omega
  · unfold rf at y1; omega
theorem sol_scr (l : LX B n h) (b : BdC B n h is cl S) (R : Reg B n h) (hs : thS is o = true) : ¬ Scr B h (clS B cl o) := fun sc => scr_c l b R hs (sol_246 R sc) (fun _ => sc) rfl
/-- the desk's path: its runs, its radius, its level -/
def PthC (B : Nat) (h : AH) (n r z N : Nat) (fr to at_ : Nat → Nat) : Prop := hv h (B + 135) 8 = (N : Int) ∧ hv h (B + 135) 9 = (r : Int) ∧ hv h (B + 135) 10 = (z : Int) ∧ RnD B h n N fr to at_
theorem c_path69 (l : LX B n h) (hd : 24 ≤ d) (hn4 : 4 ≤ n) (hn : n ≤ 52) (m : TbC B h) (b : BdC B n h is cl S) (R : Reg B n h) :
    Opx 0 (cll PP (ev PP (gsF gv) B) d 69 [(2, rf (B + 0)), (0, o), (0, r), (0, z), (0, w)] h) (fun v h' => thS is o = true ∧ paOK n r z w = true ∧ v = ((4 * pthN n (S (rwS o)) r z w : Nat) : Int) ∧ (∀ fr to at_, pthL n (S (rwS o)) r z w fr to at_ → PthC B h' n r.toNat z.toNat (pthN n (S (rwS o)) r z w) fr to at_) ∧ ScE B n (pmW B h) 1 (24 * n * n) h h')
      (fun c q => q = h ∧ ((c = 31 ∧ thS is o = false) ∨ (c = 27 ∧ thS is o = true ∧ paOK n r z w = false))) := by
  have hb0 := l.2.2
  refine Opx.inq (D := 23) hd (Nat.le_of_ble_eq_true rfl) rfl (fun d hd Q K KE => ?_)
  refine Ends.eq (b69_0 (n := n) (by (repeat' first | assumption | refine LX.setF _ _ ?_ (by decide +kernel) | refine LX.setS ?_ rfl | refine LX.setA ?_ (by first | assumption | omega))) (by first | assumption | omega)) ?_
  refine Ends.sol l (by omega) b (fun ho => ?_) (fun ho => Ends.thn rfl (KE _ _ ⟨rfl, Or.inl ⟨rfl, ho⟩⟩))
  refine Ends.eq (b69_5 (n := n) (by (repeat' first | assumption | refine LX.setF _ _ ?_ (by decide +kernel) | refine LX.setS ?_ rfl | refine LX.setA ?_ (by first | assumption | omega))) (by first | assumption | omega)) ?_
  refine Ends.need l (by omega) dpa_c (fun hp => ?_) (fun hp => Ends.thn rfl (KE _ _ ⟨rfl, Or.inr ⟨rfl, ho, hp⟩⟩))
  have ok := of_decide_eq_true hp
  obtain ⟨⟨r1, r8⟩, ⟨zz0, zn⟩, w1, w5⟩ := ok
  obtain ⟨r0, rfl⟩ : ∃ k : Nat, r = (k : Int) := ⟨r.toNat, by omega⟩
  obtain ⟨z0, rfl⟩ : ∃ k : Nat, z = (k : Int) := ⟨z.toNat, by omega⟩
  obtain ⟨d1, d2⟩ := dm64 w1 w5
  obtain ⟨s1, s2, s3⟩ := b.sol l ho
  have nsc : ¬ Scr B h (clS B cl o) := sol_scr l b R ho
  refine Ends.eq (b69_49 (n := n) (by (repeat' first | assumption | refine LX.setF _ _ ?_ (by decide +kernel) | refine LX.setS ?_ rfl | refine LX.setA ?_ (by first | assumption | omega))) (by first | assumption | omega)) ?_
  rw [d1, d2]
  refine Ends.ct l (by decide +kernel) (by decide) (c_make329 (r := r0) (z := z0) l (by omega) hn4 hn m R s1 s2 s3 nsc (by omega) (by omega) (by omega) (by omega) (by omega) (by omega)) (fun v h1 l1 _ _ _ ⟨Q1, hQ, ev_, pc, sc⟩ => ?_)
  have eq := qS_eq hQ
  have eN : rwB n r0 Q1 ((w - 1).toNat % 64 + 1) (n / ((w - 1).toNat % 64 + 1) + 1) = pthN n (S (rwS o)) (r0 : Int) (z0 : Int) w := rwB_congr eq
  refine Ends.eq (b69_76 (n := n) (by (repeat' first | assumption | refine LX.setF _ _ ?_ (by decide +kernel) | refine LX.setS ?_ rfl | refine LX.setA ?_ (by first | assumption | omega))) (by first | assumption | omega)) ?_
  refine Ends.sm (K _ _ ⟨ho, hp, by rw [ev_, eN], fun fr to at_ rl => ?_, sc⟩)
  have rl2 : RL n r0 Q1 ((w - 1).toNat % 64 + 1) (pthN n (S (rwS o)) (r0 : Int) (z0 : Int) w) fr to at_ := RL.congr (fun q y x a1 a2 a3 => (eq q y x a1 a2 a3).symm) rl
  rw [eN] at pc
  exact ⟨pc.1, pc.2.1, pc.2.2.1, pc.rnd hn (by omega) (by omega) (by omega) rl2⟩
theorem PthC.agr {r z N : Nat} {W : Nat → Nat → Prop} {q : AH} (p : PthC B h n r z N fr to at_) (g : Agr W h q) (h1 : ∀ k, 8 ≤ k → k ≤ 10 → ¬ W (B + 135) k) (h2 : ∀ c k, B + 136 ≤ c → c ≤ B + 138 → ¬ W c k) : PthC B q n r z N fr to at_ :=
  ⟨by rw [g.at _ _ (h1 _ (by omega) (by omega))]; exact p.1, by rw [g.at _ _ (h1 _ (by omega) (by omega))]; exact p.2.1, by rw [g.at _ _ (h1 _ (by omega) (by omega))]; exact p.2.2.1, p.2.2.2.agr g h2⟩
theorem PthC.ext {r z N c s : Nat} {W : Nat → Nat → Prop} {q : AH} (p : PthC B h n r z N fr to at_) (hb : B + 246 ≤ hnx h) (g : Ext W c s h q) (h1 : ∀ k, 8 ≤ k → k ≤ 10 → ¬ W (B + 135) k) (h2 : ∀ c k, B + 136 ≤ c → c ≤ B + 138 → ¬ W c k) : PthC B q n r z N fr to at_ := by
  obtain ⟨p1, p2, p3, p4, p5⟩ := p
  refine ⟨by rw [g.at _ (by omega) (h1 _ (by omega) (by omega))]; exact p1, by rw [g.at _ (by omega) (h1 _ (by omega) (by omega))]; exact p2, by rw [g.at _ (by omega) (h1 _ (by omega) (by omega))]; exact p3, p4, fun i hi => ?_⟩
  rw [g.at _ (by omega) (h2 _ _ (by omega) (by omega)), g.at _ (by omega) (h2 _ _ (by omega) (by omega)), g.at _ (by omega) (h2 _ _ (by omega) (by omega))]
  exact p5 i hi
theorem c_gouge38 {r z N : Nat} (l : LX B n h) (hd : 16 ≤ d) (hn0 : 0 < n) (hn : n ≤ 52) (hr : r ≤ 8) (hz : z ≤ n) (m : TbC B h) (b : BdC B n h is cl S) (p : PthC B h n r z N fr to at_) :
    Opx 0 (cll PP (ev PP (gsF gv) B) d 38 [(2, rf (B + 0)), (0, o)] h) (fun v h' => thS is o = true ∧ Agr (goW2 B) h h' ∧ GoA n r z N (S (rwS o)) fr to at_ v) (fun c q => q = h ∧ c = 31 ∧ thS is o = false) := by
  refine Opx.inq (D := 15) hd (Nat.le_of_ble_eq_true rfl) rfl (fun d hd Q K KE => ?_)
  refine Ends.eq (b38_0 (n := n) (by (repeat' first | assumption | refine LX.setF _ _ ?_ (by decide +kernel) | refine LX.setS ?_ rfl | refine LX.setA ?_ (by first | assumption | omega))) (by first | assumption | omega)) ?_
  refine Ends.sol l (by omega) b (fun ho => ?_) (fun ho => Ends.thn rfl (KE _ _ ⟨rfl, rfl, ho⟩))
  obtain ⟨s1, s2, s3⟩ := b.sol l ho
  refine Ends.eq (b38_9 (n := n) (by (repeat' first | assumption | refine LX.setF _ _ ?_ (by decide +kernel) | refine LX.setS ?_ rfl | refine LX.setA ?_ (by first | assumption | omega))) (by first | assumption | omega)) ?_
  refine Ends.ct l (by decide +kernel) (by decide) (c_gouge326 (z := z) l (by omega) hn0 hn m s1 s2 p.1 p.2.1 p.2.2.1 hr hz p.2.2.2) (fun v h1 l1 _ _ _ ⟨g1, go⟩ => ?_)
  refine Ends.eq (b38_12 (n := n) (by (repeat' first | assumption | refine LX.setF _ _ ?_ (by decide +kernel) | refine LX.setS ?_ rfl | refine LX.setA ?_ (by first | assumption | omega))) (by first | assumption | omega)) ?_
  exact Ends.sm (K _ _ ⟨ho, g1, go⟩)
theorem c_position74 {r z N : Nat} (l : LX B n h) (hd : 14 ≤ d) (hn : n ≤ 52) (p : PthC B h n r z N fr to at_) :
    Opx 0 (cll PP (ev PP (gsF gv) B) d 74 [(2, rf (B + 0)), (0, k), (0, a)] h) (fun v h' => (0 ≤ k ∧ k < ((4 * N : Nat) : Int)) ∧ (0 ≤ a ∧ a ≤ 2) ∧ v = posF n z fr to at_ k.toNat a.toNat ∧ h' = h) (fun c q => q = h ∧ ((c = 31 ∧ ¬ (0 ≤ k ∧ k < ((4 * N : Nat) : Int))) ∨ (c = 27 ∧ (0 ≤ k ∧ k < ((4 * N : Nat) : Int)) ∧ ¬ (0 ≤ a ∧ a ≤ 2)))) := by
  obtain ⟨p1, p2, p3, p4, p5⟩ := p
  refine Opx.inq (D := 13) hd (Nat.le_of_ble_eq_true rfl) rfl (fun d hd Q K KE => ?_)
  refine Ends.eq (b74_0 (n := n) (by (repeat' first | assumption | refine LX.setF _ _ ?_ (by decide +kernel) | refine LX.setS ?_ rfl | refine LX.setA ?_ (by first | assumption | omega))) (by first | assumption | omega)) ?_
  rw [p1, show bop32 104 (4 : Int) (N : Int) = ((4 * N : Nat) : Int) from mulNN (x := 4) (by omega), sub32 (by omega) (by omega)]
  refine Ends.there l (by omega) v42_d (fun h1 => ?_) (fun h1 => Ends.thn rfl (KE _ _ ⟨rfl, Or.inl ⟨rfl, by have := of_decide_eq_false h1; omega⟩⟩))
  have h1 := of_decide_eq_true h1
  refine Ends.eq (b74_19 (n := n) (by (repeat' first | assumption | refine LX.setF _ _ ?_ (by decide +kernel) | refine LX.setS ?_ rfl | refine LX.setA ?_ (by first | assumption | omega))) (by first | assumption | omega)) ?_
  refine Ends.need l (by omega) v42_d (fun h2 => ?_) (fun h2 => Ends.thn rfl (KE _ _ ⟨rfl, Or.inr ⟨rfl, by omega, of_decide_eq_false h2⟩⟩))
  have h2 := of_decide_eq_true h2
  obtain ⟨m, rfl⟩ : ∃ m : Nat, k = (m : Int) := ⟨k.toNat, by omega⟩
  obtain ⟨c, rfl⟩ : ∃ m : Nat, a = (m : Int) := ⟨a.toNat, by omega⟩
  have hm : m / 4 < N := by omega
  obtain ⟨f1, f2, f3, _⟩ := p5 (m / 4) hm
  have hm0 : (m : Nat) < 2147483648 := by omega
  have hq2 : 0 ≤ ((m / 4 : Nat) : Int) ∧ ((m / 4 : Nat) : Int) < 2200 := ⟨by omega, by omega⟩
  have hc : c = 0 ∨ c = 1 ∨ c = 2 := by omega
  refine Ends.eq (b74_28 (n := n) (by (repeat' first | assumption | refine LX.setF _ _ ?_ (by decide +kernel) | refine LX.setS ?_ rfl | refine LX.setA ?_ (by first | assumption | omega))) (by first | assumption | omega)) ?_
  have ev_ : v330 B n h (m : Int) (c : Int) = posF n z fr to at_ m c := by
    unfold v330 posF
    rw [show bop32 108 (m : Int) 4 = ((m / 4 : Nat) : Int) from divNN (y := 4) hm0 (by decide), show bop32 112 (m : Int) 4 = ((m % 4 : Nat) : Int) from modNN (y := 4) (by decide) (by decide), p3, tn, f1, f2, f3]
    simp only [ct0, ct1, ct3]
    rcases hc with rfl | rfl | rfl
    · rw [if_pos (show ((0 : Nat) : Int) = 0 from rfl), if_pos (show (0 : Nat) = 0 from rfl)]
      by_cases w : m % 4 < 2
      · rw [if_pos (by omega), if_pos w]
      · rw [if_neg (by omega), if_neg w]
    · rw [if_neg (show ¬ ((1 : Nat) : Int) = 0 by decide), if_pos (show ((1 : Nat) : Int) = 1 from rfl), if_neg (show ¬ (1 : Nat) = 0 by decide), if_pos (show (1 : Nat) = 1 from rfl)]
    · rw [if_neg (show ¬ ((2 : Nat) : Int) = 0 by decide), if_neg (show ¬ ((2 : Nat) : Int) = 1 by decide), if_neg (show ¬ (2 : Nat) = 0 by decide), if_neg (show ¬ (2 : Nat) = 1 by decide)]
      by_cases w : m % 4 = 0
      · rw [if_pos (by omega), if_pos (Or.inl w)]
      · rw [if_neg (by omega)]
        by_cases w2 : m % 4 = 3
        · rw [if_pos (by omega), if_pos (Or.inr w2)]
        · rw [if_neg (by omega), if_neg (by omega)]
  have qv : q330 B n h (m : Int) (c : Int) := by
    unfold q330
    rw [show bop32 108 (m : Int) 4 = ((m / 4 : Nat) : Int) from divNN (y := 4) hm0 (by decide), show bop32 112 (m : Int) 4 = ((m % 4 : Nat) : Int) from modNN (y := 4) (by decide) (by decide)]
    rcases hc with rfl | rfl | rfl
    · rw [ct1, if_pos (show ((0 : Nat) : Int) = 0 from rfl), ct3]; split <;> exact hq2
    · rw [ct1, if_neg (show ¬ ((1 : Nat) : Int) = 0 by decide), ct1, if_pos (show ((1 : Nat) : Int) = 1 from rfl)]; exact hq2
    · rw [ct1, if_neg (show ¬ ((2 : Nat) : Int) = 0 by decide), ct1, if_neg (show ¬ ((2 : Nat) : Int) = 1 by decide)]; trivial
  refine Ends.g qv (Ends.sm (K _ _ ⟨by omega, by omega, ev_, rfl⟩))
def w54 (B : Nat) (h : AH) : Nat → Nat → Prop := fun c j => (c = B + 53 ∧ j < 2) ∨ (c = B + 0 ∧ (j = 29 ∨ j = 30)) ∨ c = B + 142 ∨ Scr B h c
theorem c_left54 {r z N st : Nat} (l : LX B n h) (hd : 26 ≤ d) (hn0 : 0 < n) (hn : n ≤ 52) (hr : r ≤ 8) (hz : z ≤ n) (m : TbC B h) (b : BdC B n h is cl S) (R : Reg B n h) (p : PthC B h n r z N fr to at_) (hst : hv h (B + 0) 19 = (st : Int)) (hs2 : st < 1000000) :
    Opx 0 (cll PP (ev PP (gsF gv) B) d 54 [(2, rf (B + 0)), (0, o)] h) (fun x h' => (thS is o = true ∧ frB is 10 < 10) ∧ x = (frB is 10 : Int) ∧ ∃ h1 c, ScE B n (w54 B h) 2 (24 * n * n + 24 * n * n) h h1 ∧ KpR B n (frB is 10) st (fun g => S (rwS o) g && !tkG n r z N fr to at_ g) h1 h' c) (fun c q => q = h ∧ ((c = 31 ∧ thS is o = false) ∨ (c = 28 ∧ thS is o = true ∧ ¬ frB is 10 < 10))) := by
  have hb0 := l.2.2
  refine Opx.inq (D := 25) hd (Nat.le_of_ble_eq_true rfl) rfl (fun d hd Q K KE => ?_)
  refine Ends.eq (b54_0 (n := n) (by (repeat' first | assumption | refine LX.setF _ _ ?_ (by decide +kernel) | refine LX.setS ?_ rfl | refine LX.setA ?_ (by first | assumption | omega))) (by first | assumption | omega)) ?_
  refine Ends.sol l (by omega) b (fun ho => ?_) (fun ho => Ends.thn rfl (KE _ _ ⟨rfl, Or.inl ⟨rfl, ho⟩⟩))
  refine Ends.eq (b54_5 (n := n) (by (repeat' first | assumption | refine LX.setF _ _ ?_ (by decide +kernel) | refine LX.setS ?_ rfl | refine LX.setA ?_ (by first | assumption | omega))) (by first | assumption | omega)) ?_
  refine Ends.ct l (by decide +kernel) (by decide) (c_free36 l (by omega) (fun i hi => (b.1 i hi).1)) (fun x q l1 _ _ _ ⟨e1, ex⟩ => ?_)
  subst e1
  rw [ex]
  refine Ends.eq (b54_10 (n := n) (by (repeat' first | assumption | refine LX.setF _ _ ?_ (by decide +kernel) | refine LX.setS ?_ rfl | refine LX.setA ?_ (by first | assumption | omega))) (by first | assumption | omega)) ?_
  refine Ends.state l1 (by omega) (kp_c (x := 0)) (fun hs => ?_) (fun hs => Ends.thn rfl (KE _ _ ⟨rfl, Or.inr ⟨rfl, ho, of_decide_eq_false hs⟩⟩))
  have hf := of_decide_eq_true hs
  rw [if_pos hf]
  refine Ends.eq (b54_23 (n := n) (by (repeat' first | assumption | refine LX.setF _ _ ?_ (by decide +kernel) | refine LX.setS ?_ rfl | refine LX.setA ?_ (by first | assumption | omega))) (by first | assumption | omega)) ?_
  refine Ends.cv l1 (by decide +kernel) (c_needSpare65 l1 (by omega) hn R) (fun h2 l2 m2 _ _ ⟨s0, s1, a1, a2, a3, a4, ⟨a5, a6, a7, c7⟩, _, a11, a12, a13, a14, a15⟩ => ?_)
  obtain ⟨t1, t2, t3⟩ := b.sol l1 ho
  have n0 := scr_c l1 b R ho a5 c7
  have X2 : Ext (w54 B q) 2 (24 * n * n + 24 * n * n) q h2 := a15.sub (fun c j _ z => by rcases z with z | z; exact Or.inl z; exact Or.inr (Or.inl z)) (Nat.le_refl _) (Nat.le_refl _)
  have u2 : SG n h2 (clS B cl o) (S (rwS o)) := t1.ext a15 t3 (fun j z => by omega)
  have m2' : TbC B h2 := m.ext hb0 a15 (fun c k h1 h2 z => by omega)
  have p2 := p.ext hb0 a15 (fun k _ _ z => by omega) (fun c k _ _ z => by omega)
  refine Ends.eq (b54_27 (n := n) (by (repeat' first | assumption | refine LX.setF _ _ ?_ (by decide +kernel) | refine LX.setS ?_ rfl | refine LX.setA ?_ (by first | assumption | omega))) (by first | assumption | omega)) ?_
  rw [a1]
  refine Ends.cv l2 (by decide +kernel) (c_clear l2 (by omega) hn a7 (by omega)) (fun h3 l3 _ _ _ ⟨f3, s3⟩ => ?_)
  have g3 := f3.fr.agr
  refine Ends.eq (b54_38 (n := n) (by (repeat' first | assumption | refine LX.setF _ _ ?_ (by decide +kernel) | refine LX.setS ?_ rfl | refine LX.setA ?_ (by first | assumption | omega))) (by first | assumption | omega)) ?_
  rw [g3.at _ _ (show ¬ B + 0 = s0 by omega), a1]
  have z3 : SG n h3 s0 (fun _ => false) := SG.of hn0 s3 (fun _ _ _ _ _ _ _ _ => rfl)
  have m3 : TbC B h3 := m2'.fr f3.fr (fun c _ _ z => by omega)
  have p3 := p2.agr g3 (fun k _ _ z => by omega) (fun c k _ _ z => by omega)
  refine Ends.cv l3 (by decide +kernel) (c_taken333 (z := z) l3 (by omega) hn0 hn m3 z3 (Or.inr a5) p3.1 p3.2.1 p3.2.2.1 hr hz p3.2.2.2) (fun h4 l4 _ _ _ ⟨g4, s4⟩ => ?_)
  refine Ends.eq (b54_49 (n := n) (by (repeat' first | assumption | refine LX.setF _ _ ?_ (by decide +kernel) | refine LX.setS ?_ rfl | refine LX.setA ?_ (by first | assumption | omega))) (by first | assumption | omega)) ?_
  have u4 : SG n h4 (clS B cl o) (S (rwS o)) := (u2.agr g3 (fun _ z => n0 z)).agr g4 (fun _ z => by unfold tkW at z; omega)
  have X4 : Ext (w54 B q) 2 (24 * n * n + 24 * n * n) q h4 := by
    have c0 : ∀ c j, c < hnx q → c = s0 → w54 B q c j := fun c j hc e => Or.inr (Or.inr (Or.inr (by rw [e]; exact c7 (by omega))))
    have e3 := X2.tr (c' := 0) (s' := 0) g3.ext (fun c j hc z => c0 c j hc z)
    exact e3.tr (c' := 0) (s' := 0) g4.ext (fun c j hc z => by rcases z with z | z; exact c0 c j hc z; exact Or.inr (Or.inr (Or.inl z)))
  have R4 : Reg B n h4 ∧ lzy B n h4 = lzy B n h2 := by
    obtain ⟨r3, e3⟩ := a12.ext l2.2.2 g3.ext (fun i hi z => by have := rgi hi; omega)
    obtain ⟨r4, e4⟩ := r3.ext l3.2.2 g4.ext (fun i hi z => by have := rgi hi; unfold tkW at z; omega)
    exact ⟨r4, by omega⟩
  have us4 : hus h4 = hus h2 := by rw [g4.us, g3.us]
  have nx4 : hnx h4 = hnx h2 := by rw [g4.nx, g3.nx]
  have E4 : ScE B n (w54 B q) 2 (24 * n * n + 24 * n * n) q h4 := ⟨X4, R4.1, by rw [us4, R4.2]; omega⟩
  have st4 : hv h4 (B + 0) 19 = (st : Int) := by
    rw [g4.at _ _ (by unfold tkW; omega), g3.at _ _ (show ¬ B + 0 = s0 by omega), a15.at _ (by omega) (by omega)]
    exact hst
  have f4 : hv h4 (B + 0) 29 = rf s0 := by rw [g4.at _ _ (by unfold tkW; omega), g3.at _ _ (show ¬ B + 0 = s0 by omega)]; exact a1
  have q4 : hv h4 (B + 53) 0 = rf s0 := by rw [g4.at _ _ (by unfold tkW; omega), g3.at _ _ (show ¬ B + 53 = s0 by omega)]; exact a3
  refine Ends.ct l4 (by decide +kernel) (by decide) (c_keep52 l4 (by omega) hn hf (E4.2.1.body hf) u4 (by rw [nx4]; omega) t2 st4 hs2) (fun y3 h5 l5 _ _ _ ⟨ey3, c, Kp⟩ => ?_)
  have Kp' := Kp
  obtain ⟨k1, k2, k3, k4, k5, k6, k7, k8, k9⟩ := Kp'
  have ne : c ≠ s0 := fun e => by
    rcases k1 with ⟨w, _⟩ | ⟨_, w, _⟩
    · have := E4.2.1.2 (frB is 10) (10 + 0) (by omega) (by omega) (by omega) (by rw [rgV_b hf, rgV_s (by decide), w, q4, e])
      rw [rgV_b hf, w] at this
      have := rf_pos c
      omega
    · omega
  refine Ends.eq (b54_55 (n := n) (by (repeat' first | assumption | refine LX.setF _ _ ?_ (by decide +kernel) | refine LX.setS ?_ rfl | refine LX.setA ?_ (by first | assumption | omega))) (by first | assumption | omega)) ?_
  refine Ends.g ⟨by omega, by omega⟩ ?_
  rw [tn, k3, k9.at _ (by omega) (by unfold kpW; omega), f4]
  have s5 : SG n h5 s0 (fun g => (fun _ => false) g || prG n (unA r fr to at_ N) 2 (z : Int) (n : Int) g) := s4.ext k9 (by omega) (fun j z => by unfold kpW at z; omega)
  refine Ends.cv l5 (by decide +kernel) (c_less l5 (by omega) hn k5 s5 (by omega)) (fun h6 l6 _ _ _ ⟨f6, j6⟩ => ?_)
  have g6 := f6.fr.agr
  refine Ends.eq (b54_73 (n := n) (by (repeat' first | assumption | refine LX.setF _ _ ?_ (by decide +kernel) | refine LX.setS ?_ rfl | refine LX.setA ?_ (by first | assumption | omega))) (by first | assumption | omega)) ?_
  have j6' : SG n h6 c (fun g => S (rwS o) g && !tkG n r z N fr to at_ g) := SG.of hn0 j6 (fun t z' y x ht hz hy hx => by
    rw [onK_at hz hy, onK_at hz hy]
    show (S (rwS o) (gI n x y z' t) && !(false || prG n (unA r fr to at_ N) 2 (z : Int) (n : Int) (gI n x y z' t))) = _
    rw [Bool.false_or]
    rfl)
  exact Ends.sm (K _ _ ⟨⟨ho, hf⟩, rfl, h4, c, E4, Kp.join hf g6 j6'⟩)
end DPT
