/-! L3: what the model's lines do -/
section QAX
variable {n r : Nat}
def fA (ax : Nat) : Nat := if ax = 0 then 1 else 0
def sA (ax : Nat) : Nat := if ax = 2 then 1 else 2
theorem qx_side : ∀ ax : Fin 3, ∀ t : Fin 24, (((rT t (fA ax) : Nat) : Int) + (rT t (sA ax) : Nat) < 8 ∧ sU (quT ax t) + sV (quT ax t) < 8 ∨ 8 < ((rT t (fA ax) : Nat) : Int) + (rT t (sA ax) : Nat) ∧ 8 < sU (quT ax t) + sV (quT ax t)) ∧ (((rT t (fA ax) : Nat) : Int) < (rT t (sA ax) : Nat) ∧ sU (quT ax t) < sV (quT ax t) ∨ ((rT t (sA ax) : Nat) : Int) < (rT t (fA ax) : Nat) ∧ sV (quT ax t) < sU (quT ax t)) := by decide +kernel
/-- all sorts of a quarter are in a disc with its sample -/
theorem und_q {ax t : Nat} {a b : Int} (hax : ax < 3) (ht : t < 24) : und r (8 * a + ((rT t (fA ax) : Nat) : Int)) (8 * b + ((rT t (sA ax) : Nat) : Int)) 0 = und r (8 * a + sU (quT ax t)) (8 * b + sV (quT ax t)) 0 := by
  have hf : fA ax < 3 := by unfold fA; split <;> omega
  have hs : sA ax < 3 := by unfold sA; split <;> omega
  have r0 : 1 ≤ rT t (fA ax) ∧ rT t (fA ax) < 8 := rT_lt ⟨t, ht⟩ ⟨fA ax, hf⟩
  have r1 : 1 ≤ rT t (sA ax) ∧ rT t (sA ax) < 8 := rT_lt ⟨t, ht⟩ ⟨sA ax, hs⟩
  have s0 := sU_b (q := quT ax t)
  have s1 := sV_b (q := quT ax t)
  obtain ⟨q1, q2⟩ := qx_side ⟨ax, hax⟩ ⟨t, ht⟩
  simp only at q1 q2
  unfold und
  rw [decide_eq_decide]
  generalize sU (quT ax t) = x at *
  generalize sV (quT ax t) = y at *
  generalize rT t (fA ax) = c at *
  generalize rT t (sA ax) = e at *
  omega
theorem prG_ax {Q : Nat → Nat → Nat → Bool} {ax g : Nat} {fr to : Int} (hax : ax < 3) : prG n Q ax fr to g = (decide (fr ≤ (gC n g ax : Int) ∧ (gC n g ax : Int) < to) && Q (quT ax (gSo g)) (gC n g (sA ax)) (gC n g (fA ax))) := by
  have : ax = 0 ∨ ax = 1 ∨ ax = 2 := by omega
  rcases this with rfl | rfl | rfl <;> rfl
theorem g8_C {g a : Nat} (ha : a < 3) : g8 n g a = 8 * gC n g a + rT (gSo g) a := by
  have : a = 0 ∨ a = 1 ∨ a = 2 := by omega
  rcases this with rfl | rfl | rfl <;> rfl
theorem rT_b {g a : Nat} (hg : g < gN n) (ha : a < 3) : 1 ≤ rT (gSo g) a ∧ rT (gSo g) a < 8 := by
  obtain ⟨_, _, _, _, ht⟩ := g_lt hg
  exact rT_lt ⟨gSo g, ht⟩ ⟨a, ha⟩
end QAX
section MEFF
variable {gv : Nat → Int} {B n d s : Nat} {h : AH} {S : Nat → Bool} {nb : Nat → Int}
/-- the model's numbers of a line -/
def NbM (B : Nat) (h : AH) (many : Nat) (nb : Nat → Int) : Prop := ∀ k, k < many → hv h (B + 234) k = nb k
theorem NbM.agr {many : Nat} {W : Nat → Nat → Prop} {t : AH} (b : NbM B h many nb) (g : Agr W h t) (hW : ∀ k, ¬ W (B + 234) k) : NbM B t many nb := fun k hk => by rw [g.at _ _ (hW k)]; exact b k hk
theorem v681_d {q : AH} {x lo hi : Int} : v681 B q x lo hi = if decide (lo ≤ hv q (B + 234) x.toNat ∧ hv q (B + 234) x.toNat ≤ hi) = true then 1 else 0 := by
  unfold v681
  rw [ct2, ct4]
  by_cases h1 : hv q (B + 234) x.toNat < lo
  · rw [if_pos h1, decide_eq_false (by omega), if_neg Bool.false_ne_true]
  · by_cases h2 : hi < hv q (B + 234) x.toNat
    · rw [if_neg h1, if_pos h2, decide_eq_false (by omega), if_neg Bool.false_ne_true]
    · rw [if_neg h1, if_neg h2, decide_eq_true (by omega), if_pos rfl]
theorem c_areBound547 {many : Nat} (l : LX B n h) (hd : 10 ≤ d) (b : NbM B h many nb) (hm : many ≤ 6) :
    Vt 0 (cll PP (ev PP (gsF gv) B) d 547 [(2, rf (B + 149)), (0, (many : Int))] h) (fun v h' => h' = h ∧ v = if bd200 nb many = true then 1 else 0) := by
  refine Vt.inq (D := 9) hd (Nat.le_of_ble_eq_true rfl) rfl (fun d hd P K => ?_)
  have key : ∀ (c k : Nat), k + c = many → bd200 nb k = true → Ends (ev PP (gsF gv) B d 547 2 [(2, rf (B + 149)), (0, (many : Int)), (0, (k : Int))] [] h) P := by
    intro c
    induction c with
    | zero =>
      intro k hk lo
      have hk' : k = many := by omega
      subst hk'
      refine Ends.eq (b547_2 (n := n) (by (repeat' first | assumption | refine LX.setF _ _ ?_ (by decide +kernel) | refine LX.setS ?_ rfl | refine LX.setA ?_ (by first | assumption | omega))) (by first | assumption | omega)) ?_
      exact Ends.b3 (fun _ => Ends.sm (K _ _ ⟨rfl, by rw [if_pos lo]⟩)) (fun z => by omega)
    | succ c ih =>
      intro k hk lo
      refine Ends.eq (b547_2 (n := n) (by (repeat' first | assumption | refine LX.setF _ _ ?_ (by decide +kernel) | refine LX.setS ?_ rfl | refine LX.setA ?_ (by first | assumption | omega))) (by first | assumption | omega)) ?_
      rw [v681_d, show (k : Int).toNat = k from rfl, b k (by omega)]
      refine Ends.b3 (fun z => by omega) (fun _ => Ends.g (by unfold q681; omega) ?_)
      by_cases w : -200 ≤ nb k ∧ nb k ≤ 200
      · rw [decide_eq_true w, if_pos rfl]
        refine Ends.b1 (fun _ => ?_) (fun z => absurd z (by decide))
        rw [w_succ (by omega)]
        refine ih (k + 1) (by omega) ?_
        show (bd200 nb k && decide (-200 ≤ nb k ∧ nb k ≤ 200)) = true
        rw [lo, decide_eq_true w]; rfl
      · rw [decide_eq_false w, if_neg Bool.false_ne_true]
        refine Ends.b1 (fun z => absurd rfl z) (fun _ => Ends.sm (K _ _ ⟨rfl, ?_⟩))
        rw [if_neg (fun z => w (bd200_iff.mp z k (by omega)))]
  refine Ends.eq (b547_0 (n := n) (by (repeat' first | assumption | refine LX.setF _ _ ?_ (by decide +kernel) | refine LX.setS ?_ rfl | refine LX.setA ?_ (by first | assumption | omega))) (by first | assumption | omega)) ?_
  exact key many 0 (by omega) rfl
/-- RUN: grain by grain -/
theorem run_go {P : Rs → Prop} (l : LX B n h) (hd : 12 ≤ d) (hn0 : 0 < n) (hn : n ≤ 52) (b : NbM B h 5 nb) (ok : runOK n nb = true) (hs : s < 19) (mb : MB B n h s S)
    (K : ∀ q, Agr (wto B n s (wN n)) h q → MB B n q s (fun g => S g || runG n nb g) → P ((0, (0, 1)), q)) :
    Ends (ev PP (gsF gv) B d 562 126 [(2, rf (B + 149)), (0, (s : Int)), (0, (0 : Int))] [] h) P := by
  have hb0 := l.2.2
  obtain ⟨c0, c1, c2, c3, c4⟩ := of_decide_eq_true ok
  have i0 : Int.toNat (0 : Int) = 0 := rfl
  have i1 : Int.toNat (1 : Int) = 1 := rfl
  have i2 : Int.toNat (2 : Int) = 2 := rfl
  have i3 : Int.toNat (3 : Int) = 3 := rfl
  have i4 : Int.toNat (4 : Int) = 4 := rfl
  obtain ⟨t, et⟩ : ∃ t : Nat, nb 0 = (t : Int) := ⟨(nb 0).toNat, by omega⟩
  obtain ⟨z, ez⟩ : ∃ t : Nat, nb 1 = (t : Int) := ⟨(nb 1).toNat, by omega⟩
  obtain ⟨y, ey⟩ : ∃ t : Nat, nb 2 = (t : Int) := ⟨(nb 2).toNat, by omega⟩
  obtain ⟨x, ex⟩ : ∃ t : Nat, nb 3 = (t : Int) := ⟨(nb 3).toNat, by omega⟩
  obtain ⟨m, em⟩ : ∃ t : Nat, nb 4 = (t : Int) := ⟨(nb 4).toNat, by omega⟩
  have key : ∀ (c i : Nat) (q : AH), i + c = m → LX B n q → Agr (wto B n s (wN n)) h q → MB B n q s (fun g => S g || decide (gSo g = t ∧ gZ n g = z ∧ gY n g = y ∧ x ≤ gX n g ∧ gX n g < x + i)) → Ends (ev PP (gsF gv) B d 562 126 [(2, rf (B + 149)), (0, (s : Int)), (0, (i : Int))] [] q) P := by
    intro c
    induction c with
    | zero =>
      intro i q hi lq gq sq
      have hi' : i = m := by omega
      subst hi'
      refine Ends.eq (b562_126 (n := n) (by (repeat' first | assumption | refine LX.setF _ _ ?_ (by decide +kernel) | refine LX.setS ?_ rfl | refine LX.setA ?_ (by first | assumption | omega))) (by first | assumption | omega)) ?_
      rw [i4, gq.at _ _ (fun w => by have := w.1; omega), b 4 (by decide), em]
      refine Ends.b3 (fun _ => ?_) (fun z => by omega)
      refine Ends.eq (b562_806 (n := n) (by (repeat' first | assumption | refine LX.setF _ _ ?_ (by decide +kernel) | refine LX.setS ?_ rfl | refine LX.setA ?_ (by first | assumption | omega))) (by first | assumption | omega)) ?_
      refine Ends.sm (K _ gq (sq.congr (fun g hg => ?_)))
      show (S g || _) = (S g || runG n nb g)
      congr 1
      unfold runG
      rw [decide_eq_decide, et, ez, ey, ex, em]
      omega
    | succ c ih =>
      intro i q hi lq gq sq
      have hg0 := gI_lt (n := n) (x := x + i) (y := y) (z := z) (t := t) (by omega) (by omega) (by omega) (by omega)
      have nq : ∀ k, k < 5 → hv q (B + 234) k = nb k := fun k hk => by rw [gq.at _ _ (fun w => by have := w.1; omega)]; exact b k hk
      refine Ends.eq (b562_126 (n := n) (by (repeat' first | assumption | refine LX.setF _ _ ?_ (by decide +kernel) | refine LX.setS ?_ rfl | refine LX.setA ?_ (by first | assumption | omega))) (by first | assumption | omega)) ?_
      rw [i0, i1, i2, i3, i4, nq 0 (by decide), nq 1 (by decide), nq 2 (by decide), nq 3 (by decide), nq 4 (by decide), et, ez, ey, ex, em, addNN (by omega), grain_is hn (by omega) (by omega) (by omega) (by omega)]
      refine Ends.b3 (fun z => by omega) (fun _ => ?_)
      refine Ends.cv lq (by decide +kernel) (c_putM lq (by omega) hn hs sq hg0) (fun q2 l2 _ _ _ ⟨_, g2, s2⟩ => ?_)
      refine Ends.eq (b562_171 (n := n) (by (repeat' first | assumption | refine LX.setF _ _ ?_ (by decide +kernel) | refine LX.setS ?_ rfl | refine LX.setA ?_ (by first | assumption | omega))) (by first | assumption | omega)) ?_
      rw [w_succ (by omega)]
      refine ih (i + 1) q2 (by omega) l2 (gq.tr g2 (fun c k w => w)) (s2.congr (fun g hg => ?_))
      obtain ⟨_, g1, g2', g3, g4⟩ := g_lt hg
      have eg : g = gI n (x + i) y z t ↔ gX n g = x + i ∧ gY n g = y ∧ gZ n g = z ∧ gSo g = t := by
        conv => lhs; lhs; rw [← gI_g (n := n) (g := g)]
        exact gI_inj g1 g2' g4 (by omega) (by omega) (by omega)
      show ((S g || decide (gSo g = t ∧ gZ n g = z ∧ gY n g = y ∧ x ≤ gX n g ∧ gX n g < x + i)) || decide (g = gI n (x + i) y z t)) = (S g || decide (gSo g = t ∧ gZ n g = z ∧ gY n g = y ∧ x ≤ gX n g ∧ gX n g < x + (i + 1)))
      rw [Bool.or_assoc]
      congr 1
      rw [← Bool.decide_or, decide_eq_decide, eg]
      omega
  exact key m 0 h (by omega) l Agr.rf (mb.congr (fun g _ => by
    show S g = (S g || decide (gSo g = t ∧ gZ n g = z ∧ gY n g = y ∧ x ≤ gX n g ∧ gX n g < x + 0))
    rw [decide_eq_false (by omega), Bool.or_false]))
/-- is a grain in a block -/
theorem c_isInBlock694 {g : Nat} (l : LX B n h) (hd : 10 ≤ d) (hn : n ≤ 52) (m : TbM B h) (hg : g < gN n) (f : ∀ k, k < 6 → hv h (B + 198) k = nb k) (nbb : ∀ k, k < 6 → -1000 ≤ nb k ∧ nb k ≤ 1000) :
    Vt 0 (cll PP (ev PP (gsF gv) B) d 694 [(2, rf (B + 149)), (0, (g : Int))] h) (fun v h' => h' = h ∧ v = if prG n (bkQ nb) 2 (nb 2) (nb 5) g = true then 1 else 0) := by
  refine Vt.inq (D := 9) hd (Nat.le_of_ble_eq_true rfl) rfl (fun d hd P K => ?_)
  have tot : prG n (bkQ nb) 2 (nb 2) (nb 5) g = true ↔ ∀ k, k < 3 → nb k ≤ (gC n g k : Int) ∧ (gC n g k : Int) < nb (k + 3) := by
    rw [prG_ax (by decide)]
    unfold bkQ
    rw [← Bool.decide_and, decide_eq_true_eq]
    constructor
    · rintro ⟨⟨a, b⟩, ⟨c, e⟩, f', g'⟩ k hk
      have : k = 0 ∨ k = 1 ∨ k = 2 := by omega
      rcases this with rfl | rfl | rfl
      · exact ⟨f', g'⟩
      · exact ⟨c, e⟩
      · exact ⟨a, b⟩
    · intro w
      exact ⟨w 2 (by decide), w 1 (by decide), w 0 (by decide)⟩
  have key : ∀ (c k : Nat) (u3 : AV), k + c = 3 → (∀ j, j < k → nb j ≤ (gC n g j : Int) ∧ (gC n g j : Int) < nb (j + 3)) → Ends (ev PP (gsF gv) B d 694 2 [(2, rf (B + 149)), (0, (g : Int)), (0, (k : Int)), u3] [] h) P := by
    intro c
    induction c with
    | zero =>
      intro k u3 hk lo
      obtain rfl : k = 3 := by omega
      refine Ends.eq (b694_2 (n := n) (by (repeat' first | assumption | refine LX.setF _ _ ?_ (by decide +kernel) | refine LX.setS ?_ rfl | refine LX.setA ?_ (by first | assumption | omega))) (by first | assumption | omega)) ?_
      exact Ends.b3 (fun _ => Ends.sm (K _ _ ⟨rfl, by rw [if_pos (tot.mpr lo)]⟩)) (fun z => absurd z (by decide))
    | succ c ih =>
      intro k u3 hk lo
      have hk3 : k < 3 := by omega
      obtain ⟨k1, k2⟩ := coord_is m hn hg hk3
      have rb := rT_b hg hk3
      have cl := gC_lt (a := k) hg
      have n1 := nbb k (by omega)
      have n2 := nbb (k + 3) (by omega)
      have bad : ∀ u3 : AV, ¬ (nb k ≤ (gC n g k : Int) ∧ (gC n g k : Int) < nb (k + 3)) → Ends (ev PP (gsF gv) B d 694 42 [(2, rf (B + 149)), (0, (g : Int)), (0, (k : Int)), (0, ((g8 n g k : Nat) : Int))] [] h) P := fun _ w => by
        refine Ends.eq (b694_42 (n := n) (by (repeat' first | assumption | refine LX.setF _ _ ?_ (by decide +kernel) | refine LX.setS ?_ rfl | refine LX.setA ?_ (by first | assumption | omega))) (by first | assumption | omega)) ?_
        exact Ends.sm (K _ _ ⟨rfl, by rw [if_neg (fun z => w (tot.mp z k hk3))]⟩)
      have e8 := g8_C (n := n) (g := g) hk3
      refine Ends.eq (b694_2 (n := n) (by (repeat' first | assumption | refine LX.setF _ _ ?_ (by decide +kernel) | refine LX.setS ?_ rfl | refine LX.setA ?_ (by first | assumption | omega))) (by first | assumption | omega)) ?_
      rw [k2, show bop32 96 (k : Int) 3 = ((k + 3 : Nat) : Int) from addNN (y := 3) (by omega), tn, tn, f k (by omega), f (k + 3) (by omega), mul32 (x := 8) (by omega) (by omega), mul32 (x := 8) (by omega) (by omega)]
      refine Ends.b3 (fun z => by omega) (fun _ => Ends.g k1 (Ends.g ⟨by omega, by omega⟩ (Ends.b2 (fun z => bad (9, 0) (by omega)) (fun z1 => Ends.g ⟨by omega, by omega⟩ (Ends.b5 (fun z2 => ?_) (fun z2 => bad (9, 0) (by omega)))))))
      rw [w_succ (by omega)]
      refine ih (k + 1) _ (by omega) (fun j hj => ?_)
      by_cases e : j = k
      · rw [e]; omega
      · exact lo j (by omega)
  refine Ends.eq (b694_0 (n := n) (by (repeat' first | assumption | refine LX.setF _ _ ?_ (by decide +kernel) | refine LX.setS ?_ rfl | refine LX.setA ?_ (by first | assumption | omega))) (by first | assumption | omega)) ?_
  exact key 3 0 _ rfl (fun j hj => absurd hj (by omega))
def blW (B n s : Nat) : Nat → Nat → Prop := fun c k => c = B + 198 ∨ wto B n s (wN n) c k
/-- BLOCK -/
theorem block_go {P : Rs → Prop} (l : LX B n h) (hd : 12 ≤ d) (hn : n ≤ 52) (m : TbM B h) (b : NbM B h 6 nb) (nbb : ∀ k, k < 6 → -200 ≤ nb k ∧ nb k ≤ 200) (hs : s < 19) (mb : MB B n h s S)
    (K : ∀ q, Agr (blW B n s) h q → MB B n q s (fun g => S g || prG n (bkQ nb) 2 (nb 2) (nb 5) g) → P ((0, (0, 1)), q)) :
    Ends (ev PP (gsF gv) B d 562 219 [(2, rf (B + 149)), (0, (s : Int)), (0, (0 : Int))] [] h) P := by
  have hb0 := l.2.2
  have gle := gN_le hn
  have all : ∀ (h1 : AH), LX B n h1 → Agr (fun c _ => c = B + 198) h h1 → (∀ k, k < 6 → hv h1 (B + 198) k = nb k) → ∀ (c g : Nat) (q : AH), g + c = gN n → LX B n q → Agr (wto B n s (wN n)) h1 q → MB B n q s (fun x => S x || (decide (x < g) && prG n (bkQ nb) 2 (nb 2) (nb 5) x)) → Ends (ev PP (gsF gv) B d 562 245 [(2, rf (B + 149)), (0, (s : Int)), (0, (g : Int))] [] q) P := by
    intro h1 l1 g1 f1 c
    induction c with
    | zero =>
      intro g q hg lq gq sq
      obtain rfl : g = gN n := by omega
      refine Ends.eq (b562_245 (n := n) (by (repeat' first | assumption | refine LX.setF _ _ ?_ (by decide +kernel) | refine LX.setS ?_ rfl | refine LX.setA ?_ (by first | assumption | omega))) (by first | assumption | omega)) ?_
      refine Ends.b3 (fun _ => ?_) (fun z => by omega)
      refine Ends.eq (b562_806 (n := n) (by (repeat' first | assumption | refine LX.setF _ _ ?_ (by decide +kernel) | refine LX.setS ?_ rfl | refine LX.setA ?_ (by first | assumption | omega))) (by first | assumption | omega)) ?_
      exact Ends.sm (K _ ((g1.sub (fun c k w => Or.inl w)).tr gq (fun c k w => Or.inr w)) (sq.congr (fun x hx => by
        show (S x || (decide (x < gN n) && _)) = (S x || _)
        rw [decide_eq_true hx, Bool.true_and])))
    | succ c ih =>
      intro g q hg lq gq sq
      have hgn : g < gN n := by omega
      have mq : TbM B q := (m.agr g1 (fun c k a1 a2 a3 w => by omega)).agr gq (fun c k a1 a2 a3 w => by have := w.1; omega)
      have fq : ∀ k, k < 6 → hv q (B + 198) k = nb k := fun k hk => by rw [gq.at _ _ (fun w => by have := w.1; omega)]; exact f1 k hk
      have go : ∀ (q' : AH), LX B n q' → Agr (wto B n s (wN n)) h1 q' → MB B n q' s (fun x => S x || (decide (x < g + 1) && prG n (bkQ nb) 2 (nb 2) (nb 5) x)) → Ends (ev PP (gsF gv) B d 562 267 [(2, rf (B + 149)), (0, (s : Int)), (0, (g : Int))] [] q') P := fun q' l' g' m' => by
        refine Ends.eq (b562_267 (n := n) (by (repeat' first | assumption | refine LX.setF _ _ ?_ (by decide +kernel) | refine LX.setS ?_ rfl | refine LX.setA ?_ (by first | assumption | omega))) (by first | assumption | omega)) ?_
        rw [w_succ (by omega)]
        exact ih (g + 1) q' (by omega) l' g' m'
      refine Ends.eq (b562_245 (n := n) (by (repeat' first | assumption | refine LX.setF _ _ ?_ (by decide +kernel) | refine LX.setS ?_ rfl | refine LX.setA ?_ (by first | assumption | omega))) (by first | assumption | omega)) ?_
      refine Ends.b3 (fun z => by omega) (fun _ => ?_)
      refine Ends.ct lq (by decide +kernel) (by decide) (c_isInBlock694 lq (by omega) hn mq hgn fq (fun k hk => by have := nbb k hk; omega)) (fun v q1 l2 _ _ _ ⟨e1, ev_⟩ => ?_)
      subst e1
      rw [ev_]
      refine Ends.eq (b562_258 (n := n) (by (repeat' first | assumption | refine LX.setF _ _ ?_ (by decide +kernel) | refine LX.setS ?_ rfl | refine LX.setA ?_ (by first | assumption | omega))) (by first | assumption | omega)) ?_
      cases hp : prG n (bkQ nb) 2 (nb 2) (nb 5) g
      · refine Ends.b0 (fun _ => go q1 lq gq (sq.congr (fun x _ => ?_))) (fun z => absurd rfl z)
        by_cases e : x = g
        · rw [e, hp, Bool.and_false, Bool.and_false]
        · rw [show decide (x < g + 1) = decide (x < g) from by rw [decide_eq_decide]; omega]
      · refine Ends.b0 (fun z => absurd z (by decide)) (fun _ => ?_)
        refine Ends.cv lq (by decide +kernel) (c_putM lq (by omega) hn hs sq hgn) (fun q2 l3 _ _ _ ⟨_, g2, s2⟩ => ?_)
        refine go q2 l3 (gq.tr g2 (fun c k w => w)) (s2.congr (fun x _ => ?_))
        show ((S x || (decide (x < g) && _)) || decide (x = g)) = _
        by_cases e : x = g
        · rw [e, hp, decide_eq_true (Nat.lt_succ_self g), decide_eq_true rfl]; simp
        · rw [show decide (x < g + 1) = decide (x < g) from by rw [decide_eq_decide]; omega, decide_eq_false e, Bool.or_false]
  have cpy : ∀ (c k : Nat) (q : AH), k + c = 6 → LX B n q → Agr (fun c _ => c = B + 198) h q → (∀ j, j < k → hv q (B + 198) j = nb j) → Ends (ev PP (gsF gv) B d 562 219 [(2, rf (B + 149)), (0, (s : Int)), (0, (k : Int))] [] q) P := by
    intro c
    induction c with
    | zero =>
      intro k q hk lq gq lo
      obtain rfl : k = 6 := by omega
      refine Ends.eq (b562_219 (n := n) (by (repeat' first | assumption | refine LX.setF _ _ ?_ (by decide +kernel) | refine LX.setS ?_ rfl | refine LX.setA ?_ (by first | assumption | omega))) (by first | assumption | omega)) ?_
      refine Ends.b3 (fun _ => all q lq gq lo (gN n) 0 q (by omega) lq Agr.rf ((mb.agr gq (fun k _ w => by omega)).congr (fun x _ => by simp))) (fun z => absurd z (by decide))
    | succ c ih =>
      intro k q hk lq gq lo
      refine Ends.eq (b562_219 (n := n) (by (repeat' first | assumption | refine LX.setF _ _ ?_ (by decide +kernel) | refine LX.setS ?_ rfl | refine LX.setA ?_ (by first | assumption | omega))) (by first | assumption | omega)) ?_
      rw [tn, an0, gq.at _ _ (by omega), b k (by omega), w_succ (by omega)]
      refine Ends.b3 (fun z => by omega) (fun _ => Ends.g ⟨by omega, by omega⟩ (Ends.g ⟨by omega, by omega⟩ ?_))
      refine ih (k + 1) _ (by omega) (LX.setS lq rfl) (gq.set rfl) (fun j hj => ?_)
      by_cases e : j = k
      · rw [e]; exact hv_set_at ..
      · rw [hv_set_ne (by omega)]; exact lo j (by omega)
  exact cpy 6 0 h rfl l Agr.rf (fun j hj => absurd hj (by omega))
theorem v866_d {w a b : Int} (hw : -10000 ≤ w ∧ w ≤ 10000) (ha : -1000 ≤ a ∧ a ≤ 1000) (hb : -1000 ≤ b ∧ b ≤ 1000) : v866 w a b = if 8 * (if b < a then b else a) < w ∧ w < 8 * (if a < b then b else a) then 1 else 0 := by
  unfold v866
  rw [mul32 (x := 8) (y := b) (by omega) (by omega), mul32 (x := 8) (y := a) (by omega) (by omega)]
  simp only [ct3, ct5]
  grind
theorem f635_is {ax : Nat} (h : ax < 3) : v635 (ax : Int) = ((fA ax : Nat) : Int) ∧ v814 (ax : Int) = ((sA ax : Nat) : Int) := by
  have : ax = 0 ∨ ax = 1 ∨ ax = 2 := by omega
  rcases this with rfl | rfl | rfl <;> exact ⟨rfl, rfl⟩
/-- HOLE -/
theorem hole_go {P : Rs → Prop} (l : LX B n h) (hd : 12 ≤ d) (hn : n ≤ 52) (m : TbM B h) (b : NbM B h 6 nb) (nbb : ∀ k, k < 6 → -200 ≤ nb k ∧ nb k ≤ 200) (ok : holeOK nb = true) (hs : s < 19) (mb : MB B n h s S)
    (K : ∀ q, Agr (wto B n s (wN n)) h q → MB B n q s (fun g => S g || holG n nb g) → P ((0, (0, 1)), q)) :
    Ends (ev PP (gsF gv) B d 562 336 [(2, rf (B + 149)), (0, (s : Int)), (0, (0 : Int))] [] h) P := by
  have hb0 := l.2.2
  have gle := gN_le hn
  obtain ⟨ok0, ok5⟩ := of_decide_eq_true ok
  obtain ⟨r, er⟩ : ∃ t : Nat, nb 5 = (t : Int) := ⟨(nb 5).toNat, by omega⟩
  obtain ⟨ax, eax⟩ : ∃ t : Nat, nb 0 = (t : Int) := ⟨(nb 0).toNat, by omega⟩
  have hax : ax < 3 := by omega
  have hf : fA ax < 3 := by unfold fA; split <;> omega
  have hsA : sA ax < 3 := by unfold sA; split <;> omega
  have n1 := nbb 1 (by decide)
  have n2 := nbb 2 (by decide)
  have n3 := nbb 3 (by decide)
  have n4 := nbb 4 (by decide)
  have i0 : Int.toNat (0 : Int) = 0 := rfl
  have i1 : Int.toNat (1 : Int) = 1 := rfl
  have i2 : Int.toNat (2 : Int) = 2 := rfl
  have i3 : Int.toNat (3 : Int) = 3 := rfl
  have i4 : Int.toNat (4 : Int) = 4 := rfl
  have i5 : Int.toNat (5 : Int) = 5 := rfl
  have hG : ∀ g, g < gN n → holG n nb g = (decide (8 * (if nb 4 < nb 3 then nb 4 else nb 3) < ((g8 n g ax : Nat) : Int) ∧ ((g8 n g ax : Nat) : Int) < 8 * (if nb 3 < nb 4 then nb 4 else nb 3)) && und r (((g8 n g (fA ax) : Nat) : Int) - 8 * nb 1) (((g8 n g (sA ax) : Nat) : Int) - 8 * nb 2) 0) := fun g hg => by
    obtain ⟨_, _, _, _, ht⟩ := g_lt hg
    have rb := rT_b hg hax
    unfold holG
    rw [er, eax]
    show prG n (dsQ r (nb 1) (nb 2)) ax _ _ g = _
    rw [prG_ax hax, g8_C hax, g8_C hf, g8_C hsA]
    congr 1
    · rw [decide_eq_decide]
      generalize (if nb 4 < nb 3 then nb 4 else nb 3) = lo
      generalize (if nb 3 < nb 4 then nb 4 else nb 3) = hi
      omega
    · unfold dsQ
      rw [← und_q hax ht]
      congr 1 <;> omega
  have all : ∀ (c g : Nat) (q : AH), g + c = gN n → LX B n q → Agr (wto B n s (wN n)) h q → MB B n q s (fun x => S x || (decide (x < g) && holG n nb x)) → Ends (ev PP (gsF gv) B d 562 336 [(2, rf (B + 149)), (0, (s : Int)), (0, (g : Int))] [] q) P := by
    intro c
    induction c with
    | zero =>
      intro g q hg lq gq sq
      obtain rfl : g = gN n := by omega
      refine Ends.eq (b562_336 (n := n) (by (repeat' first | assumption | refine LX.setF _ _ ?_ (by decide +kernel) | refine LX.setS ?_ rfl | refine LX.setA ?_ (by first | assumption | omega))) (by first | assumption | omega)) ?_
      refine Ends.b3 (fun _ => ?_) (fun z => by omega)
      refine Ends.eq (b562_806 (n := n) (by (repeat' first | assumption | refine LX.setF _ _ ?_ (by decide +kernel) | refine LX.setS ?_ rfl | refine LX.setA ?_ (by first | assumption | omega))) (by first | assumption | omega)) ?_
      exact Ends.sm (K _ gq (sq.congr (fun x hx => by
        show (S x || (decide (x < gN n) && _)) = (S x || _)
        rw [decide_eq_true hx, Bool.true_and])))
    | succ c ih =>
      intro g q hg lq gq sq
      have hgn : g < gN n := by omega
      have mq : TbM B q := m.agr gq (fun c k a1 a2 a3 w => by have := w.1; omega)
      have nq : ∀ k, k < 6 → hv q (B + 234) k = nb k := fun k hk => by rw [gq.at _ _ (fun w => by have := w.1; omega)]; exact b k hk
      obtain ⟨a1, a2⟩ := coord_is mq hn hgn hax
      obtain ⟨f1, f2⟩ := coord_is mq hn hgn hf
      obtain ⟨s1, s2⟩ := coord_is mq hn hgn hsA
      have ca := gC_lt (n := n) (a := ax) hgn
      have cf := gC_lt (n := n) (a := fA ax) hgn
      have cs := gC_lt (n := n) (a := sA ax) hgn
      have ra := rT_b hgn hax
      have rf_ := rT_b hgn hf
      have rs := rT_b hgn hsA
      have ea := g8_C (n := n) (g := g) hax
      have ef := g8_C (n := n) (g := g) hf
      have es := g8_C (n := n) (g := g) hsA
      have go : ∀ (q' : AH), LX B n q' → Agr (wto B n s (wN n)) h q' → MB B n q' s (fun x => S x || (decide (x < g + 1) && holG n nb x)) → Ends (ev PP (gsF gv) B d 562 439 [(2, rf (B + 149)), (0, (s : Int)), (0, (g : Int))] [] q') P := fun q' l' g' m' => by
        refine Ends.eq (b562_439 (n := n) (by (repeat' first | assumption | refine LX.setF _ _ ?_ (by decide +kernel) | refine LX.setS ?_ rfl | refine LX.setA ?_ (by first | assumption | omega))) (by first | assumption | omega)) ?_
        rw [w_succ (by omega)]
        exact ih (g + 1) q' (by omega) l' g' m'
      have skip : holG n nb g = false → Ends (ev PP (gsF gv) B d 562 439 [(2, rf (B + 149)), (0, (s : Int)), (0, (g : Int))] [] q) P := fun hp => go q lq gq (sq.congr (fun x _ => by
        by_cases e : x = g
        · rw [e, hp, Bool.and_false, Bool.and_false]
        · rw [show decide (x < g + 1) = decide (x < g) from by rw [decide_eq_decide]; omega]))
      have hg' := hG g hgn
      refine Ends.eq (b562_336 (n := n) (by (repeat' first | assumption | refine LX.setF _ _ ?_ (by decide +kernel) | refine LX.setS ?_ rfl | refine LX.setA ?_ (by first | assumption | omega))) (by first | assumption | omega)) ?_
      rw [i0, i1, i2, i3, i4, i5, nq 0 (by decide), nq 1 (by decide), nq 2 (by decide), nq 3 (by decide), nq 4 (by decide), nq 5 (by decide), er, eax, (f635_is hax).1, (f635_is hax).2, a2, f2, s2, mul32 (x := 8) (y := nb 1) (by omega) (by omega), mul32 (x := 8) (y := nb 2) (by omega) (by omega), sub32 (x := ((g8 n g (fA ax) : Nat) : Int)) (by omega) (by omega), sub32 (x := ((g8 n g (sA ax) : Nat) : Int)) (by omega) (by omega), v866_d (by omega) (by omega) (by omega), v695_is (by omega) (by omega) (by omega)]
      refine Ends.b3 (fun z => by omega) (fun _ => Ends.g a1 ?_)
      by_cases w1 : 8 * (if nb 4 < nb 3 then nb 4 else nb 3) < ((g8 n g ax : Nat) : Int) ∧ ((g8 n g ax : Nat) : Int) < 8 * (if nb 3 < nb 4 then nb 4 else nb 3)
      · rw [if_pos w1]
        refine Ends.b0 (fun z => absurd z (by decide)) (fun _ => Ends.g f1 (Ends.g s1 ?_))
        rw [decide_eq_true w1, Bool.true_and] at hg'
        rw [← hg']
        cases hp : holG n nb g
        · exact Ends.b0 (fun _ => skip hp) (fun z => absurd rfl z)
        · refine Ends.b0 (fun z => absurd z (by decide)) (fun _ => ?_)
          refine Ends.cv lq (by decide +kernel) (c_putM lq (by omega) hn hs sq hgn) (fun q2 l3 _ _ _ ⟨_, g2, s2'⟩ => ?_)
          refine go q2 l3 (gq.tr g2 (fun c k w => w)) (s2'.congr (fun x _ => ?_))
          show ((S x || (decide (x < g) && _)) || decide (x = g)) = _
          by_cases e : x = g
          · rw [e, hp, decide_eq_true (Nat.lt_succ_self g), decide_eq_true rfl]; simp
          · rw [show decide (x < g + 1) = decide (x < g) from by rw [decide_eq_decide]; omega, decide_eq_false e, Bool.or_false]
      · rw [if_neg w1]
        rw [decide_eq_false w1, Bool.false_and] at hg'
        exact Ends.b0 (fun _ => skip hg') (fun z => absurd rfl z)
  exact all (gN n) 0 h (by omega) l Agr.rf (mb.congr (fun x _ => by simp))
end MEFF
