/-! L3: walls (model) -/
section MSHELL
variable {gv : Nat → Int} {B n d op r : Nat} {h : AH} {S : Nat → Bool} {lo mo : Nat → Int}
/-- wide beyond -/
def opM (op : Nat) (lo mo : Nat → Int) (X Y Z : Int) : Bool := (decide (op % 2 = 1) && decide (X < lo 0)) || ((decide (op / 2 % 2 = 1) && decide (mo 0 < X)) || ((decide (op / 4 % 2 = 1) && decide (Y < lo 1)) || ((decide (op / 8 % 2 = 1) && decide (mo 1 < Y)) || ((decide (op / 16 % 2 = 1) && decide (Z < lo 2)) || (decide (op / 32 % 2 = 1) && decide (mo 2 < Z))))))
theorem op_bit : ∀ o : Fin 64, (tst 0 (bop32 126 ((o : Nat) : Int) 1) 0 = !decide ((o : Nat) % 2 = 1) ∧ tst 0 (bop32 126 ((o : Nat) : Int) 2) 0 = !decide ((o : Nat) / 2 % 2 = 1) ∧ tst 0 (bop32 126 ((o : Nat) : Int) 4) 0 = !decide ((o : Nat) / 4 % 2 = 1)) ∧ tst 0 (bop32 126 ((o : Nat) : Int) 8) 0 = !decide ((o : Nat) / 8 % 2 = 1) ∧ tst 0 (bop32 126 ((o : Nat) : Int) 16) 0 = !decide ((o : Nat) / 16 % 2 = 1) ∧ tst 0 (bop32 126 ((o : Nat) : Int) 32) 0 = !decide ((o : Nat) / 32 % 2 = 1) := by decide +kernel
theorem oq_r {b c : Bool} {x y : Int} : cond (!b) (if c = true then (1 : Int) else 0) (cond (tst 2 x y) 1 (if c = true then (1 : Int) else 0)) = if ((b && decide (x < y)) || c) = true then 1 else 0 := by
  rw [ct2]
  by_cases e : x < y
  · rw [if_pos e, decide_eq_true e]; cases b <;> cases c <;> rfl
  · rw [if_neg e, decide_eq_false e]; cases b <;> cases c <;> rfl
theorem oq_s {b c : Bool} {x y : Int} : cond (!b) (if c = true then (1 : Int) else 0) (cond (tst 4 x y) 1 (if c = true then (1 : Int) else 0)) = if ((b && decide (y < x)) || c) = true then 1 else 0 := by
  rw [ct4]
  by_cases e : y < x
  · rw [if_pos e, decide_eq_true e]; cases b <;> cases c <;> rfl
  · rw [if_neg e, decide_eq_false e]; cases b <;> cases c <;> rfl
theorem oq_e {b : Bool} {x y : Int} : cond (!b) (0 : Int) (cond (tst 5 x y) 0 1) = if (b && decide (y < x)) = true then 1 else 0 := by
  rw [ct5]
  by_cases e : y < x
  · rw [if_pos e, decide_eq_true e]; cases b <;> rfl
  · rw [if_neg e, decide_eq_false e]; cases b <;> rfl
theorem c_isOpen713 {X Y Z : Int} (l : LX B n h) (hd : 10 ≤ d) (ho : op < 64) (e1 : hv h (B + 198) 1 = (op : Int)) (eb : ∀ a, a < 3 → hv h (B + 201) a = lo a ∧ hv h (B + 202) a = mo a) :
    Vt 0 (cll PP (ev PP (gsF gv) B) d 713 [(2, rf (B + 149)), (0, X), (0, Y), (0, Z)] h) (fun v h' => h' = h ∧ v = if opM op lo mo X Y Z = true then 1 else 0) := by
  refine Vt.inq (D := 9) hd (Nat.le_of_ble_eq_true rfl) rfl (fun d hd Q K => ?_)
  obtain ⟨⟨b1, b2, b3⟩, b4, b5, b6⟩ := op_bit ⟨op, ho⟩
  simp only at b1 b2 b3 b4 b5 b6
  refine Ends.eq (b713_0 l (by omega)) ?_
  rw [show Int.toNat 0 = 0 from rfl, show Int.toNat 1 = 1 from rfl, show Int.toNat 2 = 2 from rfl, e1, (eb 0 (by decide)).1, (eb 0 (by decide)).2, (eb 1 (by decide)).1, (eb 1 (by decide)).2, (eb 2 (by decide)).1, (eb 2 (by decide)).2, b1, b2, b3, b4, b5, b6]
  simp only [oq_e, oq_r, oq_s]
  exact Ends.sm (K _ _ ⟨rfl, rfl⟩)
/-- the place of a grain, moved by whole cubes -/
def inRs (n g : Nat) (i j k : Int) : Prop := (0 ≤ (gX n g : Int) + i ∧ (gX n g : Int) + i < n) ∧ (0 ≤ (gY n g : Int) + j ∧ (gY n g : Int) + j < n) ∧ 0 ≤ (gZ n g : Int) + k ∧ (gZ n g : Int) + k < n
theorem gAt_sh {g : Nat} {i j k : Int} (hg : g < gN n) : (0 ≤ ((g8 n g 0 : Nat) : Int) + 8 * i → 0 ≤ ((g8 n g 1 : Nat) : Int) + 8 * j → 0 ≤ ((g8 n g 2 : Nat) : Int) + 8 * k → tyN ((((g8 n g 0 : Nat) : Int) + 8 * i).toNat % 8) ((((g8 n g 1 : Nat) : Int) + 8 * j).toNat % 8) ((((g8 n g 2 : Nat) : Int) + 8 * k).toNat % 8) < 24) ∧ (inRs n g i j k → gAt n (((g8 n g 0 : Nat) : Int) + 8 * i) (((g8 n g 1 : Nat) : Int) + 8 * j) (((g8 n g 2 : Nat) : Int) + 8 * k) = ((gI n ((gX n g : Int) + i).toNat ((gY n g : Int) + j).toNat ((gZ n g : Int) + k).toNat (gSo g) : Nat) : Int)) ∧ (¬ inRs n g i j k → gAt n (((g8 n g 0 : Nat) : Int) + 8 * i) (((g8 n g 1 : Nat) : Int) + 8 * j) (((g8 n g 2 : Nat) : Int) + 8 * k) = -1) := by
  obtain ⟨_, x1, x2, x3, ht⟩ := g_lt hg
  have e0 : g8 n g 0 = 8 * gX n g + rT (gSo g) 0 := g8_C (a := 0) (by decide)
  have e1 : g8 n g 1 = 8 * gY n g + rT (gSo g) 1 := g8_C (a := 1) (by decide)
  have e2 : g8 n g 2 = 8 * gZ n g + rT (gSo g) 2 := g8_C (a := 2) (by decide)
  have r0 := rT_b hg (a := 0) (by decide)
  have r1 := rT_b hg (a := 1) (by decide)
  have r2 := rT_b hg (a := 2) (by decide)
  have ty := tyN_rT ⟨gSo g, ht⟩
  simp only at ty
  have md : ∀ (u q : Nat) (v : Int), 1 ≤ q ∧ q < 8 → 0 ≤ ((8 * u + q : Nat) : Int) + 8 * v → (((8 * u + q : Nat) : Int) + 8 * v).toNat % 8 = q ∧ (((8 * u + q : Nat) : Int) + 8 * v).toNat / 8 = ((u : Int) + v).toNat ∧ 0 ≤ (u : Int) + v := fun u q v hq h0 => by omega
  rw [e0, e1, e2]
  refine ⟨fun h0 h1 h2 => ?_, fun w => ?_, fun w => ?_⟩
  · rw [(md _ _ _ r0 h0).1, (md _ _ _ r1 h1).1, (md _ _ _ r2 h2).1, ty]; exact ht
  · obtain ⟨⟨w1, w2⟩, ⟨w3, w4⟩, w5, w6⟩ := w
    have q0 := md (gX n g) (rT (gSo g) 0) i r0 (by omega)
    have q1 := md (gY n g) (rT (gSo g) 1) j r1 (by omega)
    have q2 := md (gZ n g) (rT (gSo g) 2) k r2 (by omega)
    unfold gAt
    rw [if_neg (by omega), q0.1, q0.2.1, q1.1, q1.2.1, q2.1, q2.2.1, ty]
  · unfold gAt
    rw [if_pos]
    unfold inRs at w
    omega
/-- solid, or beyond what is wide -/
noncomputable def wM (n op : Nat) (lo mo : Nat → Int) (S : Nat → Bool) (g : Nat) (i j k : Int) : Bool := @decide (inRs n g i j k ∧ S (gI n ((gX n g : Int) + i).toNat ((gY n g : Int) + j).toNat ((gZ n g : Int) + k).toNat (gSo g)) = true) (Classical.propDecidable _) || opM op lo mo (((g8 n g 0 : Nat) : Int) + 8 * i) (((g8 n g 1 : Nat) : Int) + 8 * j) (((g8 n g 2 : Nat) : Int) + 8 * k)
theorem wM_f {g : Nat} {i j k : Int} (w : ¬ (inRs n g i j k ∧ S (gI n ((gX n g : Int) + i).toNat ((gY n g : Int) + j).toNat ((gZ n g : Int) + k).toNat (gSo g)) = true)) : wM n op lo mo S g i j k = opM op lo mo (((g8 n g 0 : Nat) : Int) + 8 * i) (((g8 n g 1 : Nat) : Int) + 8 * j) (((g8 n g 2 : Nat) : Int) + 8 * k) := by
  unfold wM
  rw [@decide_eq_false _ (Classical.propDecidable _) w, Bool.false_or]
theorem wM_t {g : Nat} {i j k : Int} (w : inRs n g i j k ∧ S (gI n ((gX n g : Int) + i).toNat ((gY n g : Int) + j).toNat ((gZ n g : Int) + k).toNat (gSo g)) = true) : wM n op lo mo S g i j k = true := by
  unfold wM
  rw [@decide_eq_true _ (Classical.propDecidable _) w, Bool.true_or]
theorem wM_ff {g : Nat} {i j k : Int} : wM n op lo mo S g i j k = false ↔ ¬ (inRs n g i j k ∧ S (gI n ((gX n g : Int) + i).toNat ((gY n g : Int) + j).toNat ((gZ n g : Int) + k).toNat (gSo g)) = true) ∧ opM op lo mo (((g8 n g 0 : Nat) : Int) + 8 * i) (((g8 n g 1 : Nat) : Int) + 8 * j) (((g8 n g 2 : Nat) : Int) + 8 * k) = false := by
  constructor
  · intro e
    by_cases w : inRs n g i j k ∧ S (gI n ((gX n g : Int) + i).toNat ((gY n g : Int) + j).toNat ((gZ n g : Int) + k).toNat (gSo g)) = true
    · rw [wM_t w] at e; cases e
    · rw [wM_f w] at e; exact ⟨w, e⟩
  · rintro ⟨w, e⟩
    rw [wM_f w]; exact e
/-- inside the walls -/
def dpM (n op r : Nat) (lo mo : Nat → Int) (S : Nat → Bool) (g : Nat) : Prop := ∀ i j k : Int, -(r : Int) ≤ i → i ≤ r → -(r : Int) ≤ j → j ≤ r → -(r : Int) ≤ k → k ≤ r → wM n op lo mo S g i j k = true
set_option maxHeartbeats 2000000 in
theorem c_isDeep684 {g : Nat} (l : LX B n h) (hd : 12 ≤ d) (hn : n ≤ 52) (m : TbM B h) (b : MB B n h 11 S) (hg : g < gN n) (ho : op < 64) (hr : r ≤ 8) (e0 : hv h (B + 198) 0 = (r : Int)) (e1 : hv h (B + 198) 1 = (op : Int)) (eb : ∀ a, a < 3 → hv h (B + 201) a = lo a ∧ hv h (B + 202) a = mo a) :
    Vt 0 (cll PP (ev PP (gsF gv) B) d 684 [(2, rf (B + 149)), (0, (g : Int))] h) (fun v h' => h' = h ∧ ((v = 1 ∧ dpM n op r lo mo S g) ∨ (v = 0 ∧ ¬ dpM n op r lo mo S g))) := by
  refine Vt.inq (D := 11) hd (Nat.le_of_ble_eq_true rfl) rfl (fun d hd Q K => ?_)
  have y0 : g8 n g 0 < 1000 := by have := g8_lt hg 0; omega
  have y1 : g8 n g 1 < 1000 := by have := g8_lt hg 1; omega
  have y2 : g8 n g 2 < 1000 := by have := g8_lt hg 2; omega
  obtain ⟨p0, p1⟩ := coord_is m hn hg (a := 0) (by decide)
  obtain ⟨q0, q1⟩ := coord_is m hn hg (a := 1) (by decide)
  obtain ⟨s0, s1⟩ := coord_is m hn hg (a := 2) (by decide)
  have p1' : v581 B n h (g : Int) 0 = ((g8 n g 0 : Nat) : Int) := p1
  have q1' : v581 B n h (g : Int) 1 = ((g8 n g 1 : Nat) : Int) := q1
  have s1' : v581 B n h (g : Int) 2 = ((g8 n g 2 : Nat) : Int) := s1
  have x0 := g8_lt hg 0
  have x1 := g8_lt hg 1
  have x2 := g8_lt hg 2
  have nr : ∀ _ : Unit, uop 0 (r : Int) = -(r : Int) := fun _ => neg32 (by omega) (by omega)
  have ad : ∀ (x : Nat) (i : Int), x < 1000 → -100 ≤ i → i ≤ 100 → bop32 96 (x : Int) (bop32 104 8 i) = (x : Int) + 8 * i := fun x i h1 h2 h3 => by rw [show bop32 104 8 i = 8 * i from mul32 (by omega) (by omega)]; exact add32 (by omega) (by omega)
  have w1 : ∀ i : Int, -100 ≤ i → i ≤ 100 → w32 (i + 1) = i + 1 := fun i h1 h2 => w32_id ⟨by omega, by omega⟩
  have bad : ∀ i j k : Int, -(r : Int) ≤ i → i ≤ r → -(r : Int) ≤ j → j ≤ r → -(r : Int) ≤ k → k ≤ r → wM n op lo mo S g i j k = false → Q ((0, (0, 0)), h) := fun i j k h1 h2 h3 h4 h5 h6 w => K _ _ ⟨rfl, Or.inr ⟨rfl, fun z => by rw [z i j k h1 h2 h3 h4 h5 h6] at w; cases w⟩⟩
  -- along z
  have kl : ∀ (i j : Int), -(r : Int) ≤ i → i ≤ r → -(r : Int) ≤ j → j ≤ r → (∀ (k : Int) (u9 : AV), (∀ k', -(r : Int) ≤ k' → k' ≤ r → wM n op lo mo S g i j k' = true) → Ends (ev PP (gsF gv) B d 684 44 [(2, rf (B + 149)), (0, (g : Int)), (0, (r : Int)), (0, ((g8 n g 0 : Nat) : Int)), (0, ((g8 n g 1 : Nat) : Int)), (0, ((g8 n g 2 : Nat) : Int)), (0, i), (0, j + 1), (0, k), u9] [] h) Q) → ∀ (c : Nat) (k : Int) (u9 : AV), k + c = r + 1 → -(r : Int) ≤ k → (∀ k', -(r : Int) ≤ k' → k' < k → wM n op lo mo S g i j k' = true) → Ends (ev PP (gsF gv) B d 684 54 [(2, rf (B + 149)), (0, (g : Int)), (0, (r : Int)), (0, ((g8 n g 0 : Nat) : Int)), (0, ((g8 n g 1 : Nat) : Int)), (0, ((g8 n g 2 : Nat) : Int)), (0, i), (0, j), (0, k), u9] [] h) Q := by
    intro i j hi1 hi2 hj1 hj2 go c
    induction c with
    | zero =>
      intro k u9 e hk lo'
      refine Ends.eq (b684_54 l (by omega)) (Ends.b4 (fun _ => ?_) (fun z => by omega))
      rw [w1 j (by omega) (by omega)]
      exact go k u9 (fun k' h1 h2 => lo' k' h1 (by omega))
    | succ c ih =>
      intro k u9 e hk lo'
      have hk2 : k ≤ r := by omega
      have A0 := fun (_ : Unit) => ad (g8 n g 0) i y0 (by omega) (by omega)
      have A1 := fun (_ : Unit) => ad (g8 n g 1) j y1 (by omega) (by omega)
      have A2 := fun (_ : Unit) => ad (g8 n g 2) k y2 (by omega) (by omega)
      obtain ⟨t1, t2, t3⟩ := gAt_sh (n := n) (i := i) (j := j) (k := k) hg
      obtain ⟨a1, a2⟩ := gAt_is m hn t1
      have nxt : ∀ u9 : AV, wM n op lo mo S g i j k = true → Ends (ev PP (gsF gv) B d 684 137 [(2, rf (B + 149)), (0, (g : Int)), (0, (r : Int)), (0, ((g8 n g 0 : Nat) : Int)), (0, ((g8 n g 1 : Nat) : Int)), (0, ((g8 n g 2 : Nat) : Int)), (0, i), (0, j), (0, k), (0, gAt n (((g8 n g 0 : Nat) : Int) + 8 * i) (((g8 n g 1 : Nat) : Int) + 8 * j) (((g8 n g 2 : Nat) : Int) + 8 * k))] [] h) Q := fun _ w => by
        refine Ends.eq (b684_137 l (by omega)) ?_
        rw [w1 k (by omega) (by omega)]
        refine ih (k + 1) _ (by omega) (by omega) (fun k' h1 h2 => ?_)
        by_cases e2 : k' = k
        · rw [e2]; exact w
        · exact lo' k' h1 (by omega)
      have opn : ¬ (inRs n g i j k ∧ S (gI n ((gX n g : Int) + i).toNat ((gY n g : Int) + j).toNat ((gZ n g : Int) + k).toNat (gSo g)) = true) → Ends (ev PP (gsF gv) B d 684 105 [(2, rf (B + 149)), (0, (g : Int)), (0, (r : Int)), (0, ((g8 n g 0 : Nat) : Int)), (0, ((g8 n g 1 : Nat) : Int)), (0, ((g8 n g 2 : Nat) : Int)), (0, i), (0, j), (0, k), (0, gAt n (((g8 n g 0 : Nat) : Int) + 8 * i) (((g8 n g 1 : Nat) : Int) + 8 * j) (((g8 n g 2 : Nat) : Int) + 8 * k))] [] h) Q := fun w => by
        have ew : wM n op lo mo S g i j k = opM op lo mo (((g8 n g 0 : Nat) : Int) + 8 * i) (((g8 n g 1 : Nat) : Int) + 8 * j) (((g8 n g 2 : Nat) : Int) + 8 * k) := by
          exact wM_f w
        refine Ends.eq (b684_105 l (by omega)) ?_
        rw [A0 (), A1 (), A2 ()]
        refine Ends.ct l (by decide +kernel) (by decide) (c_isOpen713 l (by omega) ho e1 eb) (fun v h2 l2 _ _ _ ⟨e2, ev_⟩ => ?_)
        obtain rfl := e2
        rw [ev_]
        refine Ends.eq (b684_132 l2 (by omega)) ?_
        rw [← ew]
        cases hw : wM n op lo mo S g i j k
        · exact Ends.b1 (fun z => absurd rfl z) (fun _ => Ends.sm (bad i j k hi1 hi2 hj1 hj2 hk hk2 hw))
        · exact Ends.b1 (fun _ => nxt (9, 0) hw) (fun z => by rw [if_pos rfl] at z; exact absurd z (by decide))
      refine Ends.eq (b684_54 l (by omega)) ?_
      rw [A0 (), A1 (), A2 (), a2]
      refine Ends.b4 (fun z => by omega) (fun _ => Ends.g a1 ?_)
      by_cases inn : inRs n g i j k
      · have e3 := t2 inn
        obtain ⟨⟨w1, w2⟩, ⟨w3, w4⟩, w5, w6⟩ := inn
        have hG : gI n ((gX n g : Int) + i).toNat ((gY n g : Int) + j).toNat ((gZ n g : Int) + k).toNat (gSo g) < gN n := gI_lt (by omega) (by omega) (by omega) (g_lt hg).2.2.2.2
        obtain ⟨b1, b2⟩ := has_is b (by decide) hn hG
        have b2' : v669 B n h 11 ((gI n ((gX n g : Int) + i).toNat ((gY n g : Int) + j).toNat ((gZ n g : Int) + k).toNat (gSo g) : Nat) : Int) = if S (gI n ((gX n g : Int) + i).toNat ((gY n g : Int) + j).toNat ((gZ n g : Int) + k).toNat (gSo g)) = true then 1 else 0 := b2
        rw [e3] at nxt opn ⊢
        rw [b2']
        refine Ends.b2 (fun z => by omega) (fun _ => Ends.g b1 ?_)
        cases hS : S (gI n ((gX n g : Int) + i).toNat ((gY n g : Int) + j).toNat ((gZ n g : Int) + k).toNat (gSo g))
        · exact Ends.b1 (fun z => absurd rfl z) (fun _ => opn (fun z => by rw [hS] at z; exact Bool.false_ne_true z.2))
        · refine Ends.b1 (fun _ => nxt (9, 0) ?_) (fun z => by rw [if_pos rfl] at z; exact absurd z (by decide))
          exact wM_t ⟨⟨⟨w1, w2⟩, ⟨w3, w4⟩, w5, w6⟩, hS⟩
      · rw [t3 inn] at nxt opn ⊢
        exact Ends.b2 (fun _ => opn (fun z => inn z.1)) (fun z => absurd z (by decide))
  -- along y
  have jl : ∀ (i : Int), -(r : Int) ≤ i → i ≤ r → (∀ (j : Int) (u8 u9 : AV), (∀ j' k', -(r : Int) ≤ j' → j' ≤ r → -(r : Int) ≤ k' → k' ≤ r → wM n op lo mo S g i j' k' = true) → Ends (ev PP (gsF gv) B d 684 34 [(2, rf (B + 149)), (0, (g : Int)), (0, (r : Int)), (0, ((g8 n g 0 : Nat) : Int)), (0, ((g8 n g 1 : Nat) : Int)), (0, ((g8 n g 2 : Nat) : Int)), (0, i + 1), (0, j), u8, u9] [] h) Q) → ∀ (c : Nat) (j : Int) (u8 u9 : AV), j + c = r + 1 → -(r : Int) ≤ j → (∀ j' k', -(r : Int) ≤ j' → j' < j → -(r : Int) ≤ k' → k' ≤ r → wM n op lo mo S g i j' k' = true) → Ends (ev PP (gsF gv) B d 684 44 [(2, rf (B + 149)), (0, (g : Int)), (0, (r : Int)), (0, ((g8 n g 0 : Nat) : Int)), (0, ((g8 n g 1 : Nat) : Int)), (0, ((g8 n g 2 : Nat) : Int)), (0, i), (0, j), u8, u9] [] h) Q := by
    intro i hi1 hi2 go c
    induction c with
    | zero =>
      intro j u8 u9 e hj lo'
      refine Ends.eq (b684_44 l (by omega)) (Ends.b4 (fun _ => ?_) (fun z => by omega))
      rw [w1 i (by omega) (by omega)]
      exact go j u8 u9 (fun j' k' h1 h2 h3 h4 => lo' j' k' h1 (by omega) h3 h4)
    | succ c ih =>
      intro j u8 u9 e hj lo'
      refine Ends.eq (b684_44 l (by omega)) (Ends.b4 (fun z => by omega) (fun _ => ?_))
      rw [nr ()]
      refine kl i j hi1 hi2 hj (by omega) (fun k u9 all => ih (j + 1) _ _ (by omega) (by omega) (fun j' k' h1 h2 h3 h4 => ?_)) (2 * r + 1) (-(r : Int)) _ (by omega) (Int.le_refl _) (fun k' h1 h2 => by omega)
      by_cases e2 : j' = j
      · rw [e2]; exact all k' h3 h4
      · exact lo' j' k' h1 (by omega) h3 h4
  have il : ∀ (c : Nat) (i : Int) (u7 u8 u9 : AV), i + c = r + 1 → -(r : Int) ≤ i → (∀ i' j' k', -(r : Int) ≤ i' → i' < i → -(r : Int) ≤ j' → j' ≤ r → -(r : Int) ≤ k' → k' ≤ r → wM n op lo mo S g i' j' k' = true) → Ends (ev PP (gsF gv) B d 684 34 [(2, rf (B + 149)), (0, (g : Int)), (0, (r : Int)), (0, ((g8 n g 0 : Nat) : Int)), (0, ((g8 n g 1 : Nat) : Int)), (0, ((g8 n g 2 : Nat) : Int)), (0, i), u7, u8, u9] [] h) Q := by
    intro c
    induction c with
    | zero =>
      intro i u7 u8 u9 e hi lo'
      refine Ends.eq (b684_34 l (by omega)) (Ends.b4 (fun _ => ?_) (fun z => by omega))
      exact Ends.sm (K _ _ ⟨rfl, Or.inl ⟨rfl, fun i' j' k' h1 h2 h3 h4 h5 h6 => lo' i' j' k' h1 (by omega) h3 h4 h5 h6⟩⟩)
    | succ c ih =>
      intro i u7 u8 u9 e hi lo'
      refine Ends.eq (b684_34 l (by omega)) (Ends.b4 (fun z => by omega) (fun _ => ?_))
      rw [nr ()]
      refine jl i hi (by omega) (fun j u8 u9 all => ih (i + 1) _ _ _ (by omega) (by omega) (fun i' j' k' h1 h2 h3 h4 h5 h6 => ?_)) (2 * r + 1) (-(r : Int)) _ _ (by omega) (Int.le_refl _) (fun j' k' h1 h2 => by omega)
      by_cases e2 : i' = i
      · rw [e2]; exact all j' k' h3 h4 h5 h6
      · exact lo' i' j' k' h1 (by omega) h3 h4 h5 h6
  refine Ends.eq (b684_0 l (by omega)) (Ends.g p0 (Ends.g q0 (Ends.g s0 ?_)))
  rw [show Int.toNat 0 = 0 from rfl, e0, nr (), p1', q1', s1']
  exact il (2 * r + 1) (-(r : Int)) _ _ _ (by omega) (Int.le_refl _) (fun i' j' k' h1 h2 => by omega)
noncomputable def dpK (n op r : Nat) (lo mo : Nat → Int) (S : Nat → Bool) (g : Nat) : Bool := @decide (dpM n op r lo mo S g) (Classical.propDecidable _)
theorem dpK_iff {g : Nat} : dpK n op r lo mo S g = true ↔ dpM n op r lo mo S g := by unfold dpK; exact @decide_eq_true_iff _ (Classical.propDecidable _)
def mshW (B n : Nat) : Nat → Nat → Prop := fun c k => wto B n 18 (wN n) c k ∨ boW B c k
theorem c_shell822 (l : LX B n h) (hd : 14 ≤ d) (hn : n ≤ 52) (m : TbM B h) (b : MB B n h 11 S) (ho : op < 64) (hr : r ≤ 8) (e0 : hv h (B + 198) 0 = (r : Int)) (e1 : hv h (B + 198) 1 = (op : Int)) :
    Vd (cll PP (ev PP (gsF gv) B) d 822 [(2, rf (B + 149))] h) (fun h' => Agr (mshW B n) h h' ∧ ∃ lo mo, BoI n (fun g k a => g < gN n ∧ k < 4 ∧ S g = true) lo mo ∧ MB B n h' 18 (fun g => S g && !dpK n op r lo mo S g)) := by
  have hN := gN_le hn
  refine Vd.inq (D := 13) hd (Nat.le_of_ble_eq_true rfl) rfl (fun d hd Q K => ?_)
  refine Ends.eq (b822_0 l (by omega)) ?_
  refine Ends.cv l (by decide +kernel) (c_copyM (s := 11) (t := 18) l (by omega) hn (by decide) (by decide) b) (fun h2 l2 _ _ _ ⟨g2, m2⟩ => ?_)
  have b2 : MB B n h2 11 S := b.row g2 (by decide)
  have tb2 : TbM B h2 := m.agr g2 (fun c k _ _ _ z => by unfold wto at z; omega)
  refine Ends.eq (b822_8 l2 (by omega)) ?_
  refine Ends.cv l2 (by decide +kernel) (c_bounds561 (s := 11) l2 (by omega) hn (by decide) tb2 b2) (fun h3 l3 _ _ _ ⟨g3, lo, mo, bo, v3⟩ => ?_)
  have bo236 : ∀ k, ¬ boW B (B + 236) k := fun k z => by unfold boW at z; omega
  have bo198 : ∀ k, ¬ boW B (B + 198) k := fun k z => by unfold boW at z; omega
  have b3 : MB B n h3 11 S := b2.agr g3 (fun k _ => bo236 _)
  have m3 : MB B n h3 18 S := m2.agr g3 (fun k _ => bo236 _)
  have G3 : Agr (mshW B n) h h3 := (g2.sub (fun c k z => Or.inl z)).tr g3 (fun c k z => Or.inr z)
  have tb3 : TbM B h3 := m.agr G3 (fun c k _ _ _ z => by unfold mshW wto boW at z; omega)
  have f0 : hv h3 (B + 198) 0 = (r : Int) := by rw [G3.at _ _ (fun z => by unfold mshW wto boW at z; omega)]; exact e0
  have f1 : hv h3 (B + 198) 1 = (op : Int) := by rw [G3.at _ _ (fun z => by unfold mshW wto boW at z; omega)]; exact e1
  refine Ends.eq (b822_14 l3 (by omega)) ?_
  have key : ∀ (c i : Nat) (q : AH), i + c = gN n → LX B n q → Agr (wto B n 18 (wN n)) h3 q → MB B n q 18 (fun x => S x && !(decide (x < i) && dpK n op r lo mo S x)) → Ends (ev PP (gsF gv) B d 822 16 [(2, rf (B + 149)), (0, (i : Int))] [] q) Q := by
    intro c
    induction c with
    | zero =>
      intro i q e lq gq mq
      obtain rfl : i = gN n := by omega
      refine Ends.eq (b822_16 lq (by omega)) (Ends.b3 (fun _ => Ends.sm (K _ ⟨G3.tr gq (fun c k z => Or.inl z), lo, mo, bo, mq.congr (fun x hx => ?_)⟩)) (fun z => by omega))
      show (S x && !(decide (x < gN n) && _)) = _
      rw [decide_eq_true hx, Bool.true_and]
    | succ c ih =>
      intro i q e lq gq mq
      have hi : i < gN n := by omega
      have bq : MB B n q 11 S := b3.row gq (by decide)
      have nxt : ∀ q, LX B n q → Agr (wto B n 18 (wN n)) h3 q → MB B n q 18 (fun x => S x && !(decide (x < i + 1) && dpK n op r lo mo S x)) → Ends (ev PP (gsF gv) B d 822 49 [(2, rf (B + 149)), (0, (i : Int))] [] q) Q := fun q lq gq mq => by
        refine Ends.eq (b822_49 lq (by omega)) ?_
        rw [w_succ (by omega)]
        exact ih (i + 1) q (by omega) lq gq mq
      have keep : (S i && dpK n op r lo mo S i) = false → MB B n q 18 (fun x => S x && !(decide (x < i + 1) && dpK n op r lo mo S x)) := fun w => mq.congr (fun x hx => by
        show (S x && !(decide (x < i) && dpK n op r lo mo S x)) = (S x && !(decide (x < i + 1) && dpK n op r lo mo S x))
        by_cases e2 : x = i
        · rw [e2, decide_eq_false (Nat.lt_irrefl i), decide_eq_true (Nat.lt_succ_self i)]
          cases hS : S i
          · rfl
          · rw [hS, Bool.true_and] at w; rw [w]; rfl
        · rw [show decide (x < i) = decide (x < i + 1) from by rw [decide_eq_decide]; omega])
      obtain ⟨a1, a2⟩ := has_is bq (by decide) hn hi
      have a2' : v669 B n q 11 (i : Int) = if S i = true then 1 else 0 := a2
      refine Ends.eq (b822_16 lq (by omega)) (Ends.b3 (fun z => by omega) (fun _ => Ends.g a1 ?_))
      rw [a2']
      cases hS : S i
      · exact Ends.b0 (fun _ => nxt q lq gq (keep (by rw [hS]; rfl))) (fun z => absurd rfl z)
      refine Ends.b0 (fun z => absurd z (by decide)) (fun _ => ?_)
      have tbq : TbM B q := tb3.agr gq (fun c k _ _ _ z => by unfold wto at z; omega)
      refine Ends.ct lq (by decide +kernel) (by decide) (c_isDeep684 (lo := lo) (mo := mo) lq (by omega) hn tbq bq hi ho hr (by rw [gq.at _ _ (fun z => by unfold wto at z; omega)]; exact f0) (by rw [gq.at _ _ (fun z => by unfold wto at z; omega)]; exact f1) (fun a ha => by rw [gq.at _ _ (fun z => by unfold wto at z; omega), gq.at _ _ (fun z => by unfold wto at z; omega)]; exact v3 a ha)) (fun v q2 l2 _ _ _ ⟨e2, ev_⟩ => ?_)
      obtain rfl := e2
      refine Ends.eq (b822_39 l2 (by omega)) ?_
      rcases ev_ with ⟨rfl, dp⟩ | ⟨rfl, dp⟩
      · refine Ends.b0 (fun z => absurd z (by decide)) (fun _ => ?_)
        refine Ends.cv l2 (by decide +kernel) (c_dropM (t := 18) l2 (by omega) hn (by decide) mq hi) (fun q3 l3 _ _ _ ⟨_, g3, m3⟩ => ?_)
        refine nxt q3 l3 (gq.tr g3 (fun c k z => z)) (m3.congr (fun x hx => ?_))
        show ((S x && !(decide (x < i) && dpK n op r lo mo S x)) && !decide (x = i)) = (S x && !(decide (x < i + 1) && dpK n op r lo mo S x))
        by_cases e2 : x = i
        · rw [e2, decide_eq_true (Eq.refl i), decide_eq_true (Nat.lt_succ_self i), dpK_iff.mpr dp, Bool.not_true, Bool.and_false, Bool.and_true, Bool.not_true, Bool.and_false]
        · rw [decide_eq_false e2, Bool.not_false, Bool.and_true, show decide (x < i) = decide (x < i + 1) from by rw [decide_eq_decide]; omega]
      · refine Ends.b0 (fun _ => nxt q2 l2 gq (keep ?_)) (fun z => absurd rfl z)
        rw [show dpK n op r lo mo S i = false from by cases w : dpK n op r lo mo S i; rfl; exact absurd (dpK_iff.mp w) dp, Bool.and_false]
  exact key (gN n) 0 h3 (by omega) l3 Agr.rf (m3.congr (fun x hx => by
    show S x = (S x && !(decide (x < 0) && _))
    rw [decide_eq_false (Nat.not_lt_zero x), Bool.false_and, Bool.not_false, Bool.and_true]))
end MSHELL
