/-! L3: whether a point is inside: the model -/
theorem aB_rest : ∀ t : Fin 24, rT t (aB t) = if hiB t then 6 else 2 := by decide +kernel
theorem flp_6 {b : Bool} {c : Int} {r : Nat} (hr : r = if b = true then 6 else 2) (hc : 0 ≤ c ∧ c ≤ 8) : cond (tst 1 ((r : Nat) : Int) 2) (bop32 100 8 c) c = flp b c := by
  unfold flp
  rw [ct1, show bop32 100 8 c = 8 - c from sub32 (by omega) (by omega)]
  cases b
  · rw [if_neg Bool.false_ne_true] at hr ⊢
    rw [hr]
    rfl
  · rw [if_pos rfl] at hr ⊢
    rw [hr]
    rfl
theorem flp_7 {b : Bool} {c : Int} {r : Nat} (hr : r = if b = true then 7 else 1) (hc : 0 ≤ c ∧ c ≤ 8) : cond (tst 1 ((r : Nat) : Int) 1) (bop32 100 8 c) c = flp b c := by
  unfold flp
  rw [ct1, show bop32 100 8 c = 8 - c from sub32 (by omega) (by omega)]
  cases b
  · rw [if_neg Bool.false_ne_true] at hr ⊢
    rw [hr]
    rfl
  · rw [if_pos rfl] at hr ⊢
    rw [hr]
    rfl
theorem flp_0 {b : Bool} {c : Int} (hc : 0 ≤ c ∧ c ≤ 8) : 0 ≤ flp b c := by
  unfold flp
  split <;> omega
/-- what the model's flags say -/
def mkI (so ev : Int) (A E : Prop) : Prop := (so = 0 ∨ so = 1) ∧ (ev = 0 ∨ ev = 1) ∧ (ev = 1 ↔ A) ∧ (so = 1 ↔ E)
theorem mkI.cg {so ev : Int} {A E A2 E2 : Prop} (i : mkI so ev A E) (h1 : A ↔ A2) (h2 : E ↔ E2) : mkI so ev A2 E2 := ⟨i.1, i.2.1, i.2.2.1.trans h1, i.2.2.2.trans h2⟩
theorem mkI.step {so ev : Int} {A E : Prop} (i : mkI so ev A E) (g : Bool) : mkI (cond (tst 1 so 0) 1 (cond (tst 0 (if g = true then (1 : Int) else 0) 0) (0 : Int) 1)) (cond (tst 0 ev 0) (0 : Int) (cond (tst 0 (if g = true then (1 : Int) else 0) 0) 0 1)) (A ∧ (true = true → g = true)) (E ∨ (true = true ∧ g = true)) := by
  obtain ⟨i1, i2, i3, i4⟩ := i
  rw [ct1, ct0, ct0]
  rcases i1 with rfl | rfl <;> rcases i2 with rfl | rfl <;> cases g <;> refine ⟨?_, ?_, ?_, ?_⟩ <;> simp <;> simp at i3 i4 <;> grind
section MINS
variable {gv : Nat → Int} {B n d : Nat} {h : AH} {is : Nat → Bool} {S : Nat → Nat → Bool} {T : Nat → Bool} {o : Int}
theorem c_holds673 (l : LX B n h) (hd : 10 ≤ d) (hn0 : 0 < n) (hn : n ≤ 52) (m : TbM B h) {g : Nat} (hg : g < gN n) {x y z : Int} (hx : 0 ≤ x - 8 * (gX n g : Int) ∧ x - 8 * (gX n g : Int) ≤ 8) (hy : 0 ≤ y - 8 * (gY n g : Int) ∧ y - 8 * (gY n g : Int) ≤ 8) (hz : 0 ≤ z - 8 * (gZ n g : Int) ∧ z - 8 * (gZ n g : Int) ≤ 8) :
    Vt 0 (cll PP (ev PP (gsF gv) B) d 673 [(2, rf (B + 149)), (0, (g : Int)), (0, x), (0, y), (0, z)] h) (fun v h' => v = (if hpB (gSo g) (x - 8 * (gX n g : Int)) (y - 8 * (gY n g : Int)) (z - 8 * (gZ n g : Int)) = true then 1 else 0) ∧ Agr (fun c _ => c = B + 186) h h') := by
  have hb0 := l.2.2
  obtain ⟨_, gx, gy, gz, ht⟩ := g_lt hg
  have gle := gN_le2 hn
  refine Vt.inq (D := 9) hd (Nat.le_of_ble_eq_true rfl) rfl (fun d hd P K => ?_)
  obtain ⟨ta, tb_, tc⟩ := ax_lt ⟨gSo g, ht⟩
  have ta : aA (gSo g) < 3 := ta
  have tb_ : aB (gSo g) < 3 := tb_
  have tc : aC (gSo g) < 3 := tc
  have ma := (m.1 (gSo g) ht).2.2.2.1
  have mb := (m.1 (gSo g) ht).2.2.2.2.1
  have mc := (m.1 (gSo g) ht).2.2.2.2.2.1
  have rB := aB_rest ⟨gSo g, ht⟩
  have rC := aC_rest ⟨gSo g, ht⟩
  simp only at rB rC
  have r8 : ∀ (w : Int) (k : Nat), k < n → 0 ≤ w - 8 * (k : Int) → w - 8 * (k : Int) ≤ 8 → bop32 100 w (bop32 104 8 (k : Int)) = w - 8 * (k : Int) := fun w k hk h1 h2 => by
    rw [show bop32 104 (8 : Int) (k : Int) = ((8 * k : Nat) : Int) from mulNN (x := 8) (by omega), sub32 (by omega) (by omega)]
    omega
  refine Ends.eq (b673_0 (n := n) (by (repeat' first | assumption | refine LX.setF _ _ ?_ (by decide +kernel) | refine LX.setS ?_ rfl | refine LX.setA ?_ (by first | assumption | omega))) (by first | assumption | omega)) ?_
  rw [cubeX_is hn0 hn (by omega), cubeY_is hn0 hn (by omega), cubeZ_is hn0 hn (by omega), gSo_is, tn, r8 x _ gx hx.1 hx.2, r8 y _ gy hy.1 hy.2, r8 z _ gz hz.1 hz.2, an0, an0, an0, ma, mb, mc, tn, tn, tn]
  clear r8
  generalize x - 8 * (gX n g : Int) = rx at *
  generalize y - 8 * (gY n g : Int) = ry at *
  generalize z - 8 * (gZ n g : Int) = rz at *
  obtain ⟨q, eq_⟩ : ∃ q, q = hset (hset (hset h (B + 186) (Int.toNat 0) rx) (B + 186) (Int.toNat 1) ry) (B + 186) (Int.toNat 2) rz := ⟨_, rfl⟩
  have gq : Agr (fun c _ => c = B + 186) h q := by rw [eq_]; exact ((Agr.rf.set (W := fun c _ => c = B + 186) rfl).set rfl).set rfl
  have vq : ∀ a, a < 3 → hv q (B + 186) a = sel3 a rx ry rz := fun a ha => by
    have : a = 0 ∨ a = 1 ∨ a = 2 := by omega
    rw [eq_]
    rcases this with rfl | rfl | rfl
    · rw [hv_set_ne (fun w => absurd w.2 (by decide)), hv_set_ne (fun w => absurd w.2 (by decide))]; exact hv_set_at ..
    · rw [hv_set_ne (fun w => absurd w.2 (by decide))]; exact hv_set_at ..
    · exact hv_set_at ..
  rw [← eq_]
  clear eq_
  have mq : TbM B q := m.agr gq (fun c k a1 a2 a3 w => by omega)
  obtain ⟨b1, b2⟩ := rest_is mq ht tb_
  obtain ⟨c1, c2⟩ := rest_is mq ht tc
  rw [b2, c2, vq _ ta, vq _ tb_, vq _ tc, flp_6 rB (sel_b hx hy hz), flp_7 rC (sel_b hx hy hz), hp_4 (sel_b hx hy hz), ct2, if_neg (show ¬ flp (hiC (gSo g)) (sel3 (aC (gSo g)) rx ry rz) < 0 from fun w => by have := flp_0 (b := hiC (gSo g)) (sel_b (a := aC (gSo g)) hx hy hz); omega)]
  have i3 : ∀ a : Nat, a < 3 → (0 : Int) ≤ (a : Int) ∧ (a : Int) < ((3 : Nat) : Int) := fun a ha => ⟨by omega, by omega⟩
  refine Ends.g (by unfold q588; omega) (Ends.g (by decide) (Ends.g (by unfold q589; omega) (Ends.g (by decide) (Ends.g (by unfold q590; omega) (Ends.g (by decide) (Ends.g ⟨by omega, by omega⟩ (Ends.g (i3 _ ta) (Ends.g b1 (Ends.g ?_ (Ends.g c1 (Ends.g ?_ (Ends.sm (K _ _ ⟨rfl, gq⟩)))))))))))))
  · cases tst 1 ((rT (gSo g) (aB (gSo g)) : Nat) : Int) 2 <;> exact i3 _ tb_
  · cases tst 1 ((rT (gSo g) (aC (gSo g)) : Nat) : Int) 1 <;> exact i3 _ tc
theorem c_inside677 (l : LX B n h) (hd : 16 ≤ d) (hn0 : 0 < n) (hn : n ≤ 52) (m : TbM B h) (bd : BdM B n h is S) {x y z : Int} :
    Vt 0 (cll PP (ev PP (gsF gv) B) d 677 [(2, rf (B + 149)), (0, o), (0, x), (0, y), (0, z)] h) (fun v h' => (thS is o = false ∧ MdA B h 1 v h') ∨ (thS is o = true ∧ ¬ ((0 ≤ x ∧ x ≤ 8 * (n : Int)) ∧ (0 ≤ y ∧ y ≤ 8 * (n : Int)) ∧ 0 ≤ z ∧ z ≤ 8 * (n : Int)) ∧ MdA B h 2 v h') ∨ (thS is o = true ∧ ((0 ≤ x ∧ x ≤ 8 * (n : Int)) ∧ (0 ≤ y ∧ y ≤ 8 * (n : Int)) ∧ 0 ≤ z ∧ z ≤ 8 * (n : Int)) ∧ v = insS n (S (rwS o)) x.toNat y.toNat z.toNat ∧ Agr (fun c _ => c = B + 186) (hset h (B + 149) 0 0) h')) := by
  have hb0 := l.2.2
  refine Vt.inq (D := 15) hd (Nat.le_of_ble_eq_true rfl) rfl (fun d hd P K => ?_)
  have n8 : bop32 104 (8 : Int) (n : Int) = ((8 * n : Nat) : Int) := mulNN (x := 8) (by omega)
  refine Ends.eq (b677_0 (n := n) (by (repeat' first | assumption | refine LX.setF _ _ ?_ (by decide +kernel) | refine LX.setS ?_ rfl | refine LX.setA ?_ (by first | assumption | omega))) (by first | assumption | omega)) ?_
  obtain ⟨v1, v2⟩ := v765_is (o := o) (fun i hi => (bd.1 i hi).1)
  refine Ends.g v1 ?_
  rw [v2, n8, ct0, ct2, ct2, ct2, ct4, ct4, ct5]
  clear n8
  have bad : ∀ (c : Nat), c ≠ 0 → P ((0, (0, 0)), hset h (B + 149) 0 (c : Int)) → Ends (ev PP (gsF gv) B d 677 62 [(2, rf (B + 149)), (0, o), (0, x), (0, y), (0, z), (0, ((8 * n : Nat) : Int)), (9, 0), (9, 0), (9, 0), (9, 0), (9, 0), (9, 0), (9, 0), (9, 0)] [(0, 1)] (hset h (B + 149) 0 (c : Int))) P := fun c hc q => by
    have l2 : LX B n (hset h (B + 149) 0 (c : Int)) := LX.setF 149 0 l (by decide +kernel)
    refine Ends.eq (b677_62 (n := n) (by (repeat' first | assumption | refine LX.setF _ _ ?_ (by decide +kernel) | refine LX.setS ?_ rfl | refine LX.setA ?_ (by first | assumption | omega))) (by first | assumption | omega)) ?_
    exact Ends.b0 (fun z => absurd z (by decide)) (fun _ => Ends.sm q)
  cases ho : thS is o
  · rw [if_neg (show ¬ (if false = true then (0 : Int) else 1) = 0 by decide)]
    exact Ends.mbad l (by omega) (c := 1) (by decide) rfl (bad 1 (by decide) (K _ _ (Or.inl ⟨ho, rfl, rfl⟩)))
  rw [if_pos (show (if true = true then (0 : Int) else 1) = 0 by decide)]
  by_cases hp : (0 ≤ x ∧ x ≤ 8 * (n : Int)) ∧ (0 ≤ y ∧ y ≤ 8 * (n : Int)) ∧ 0 ≤ z ∧ z ≤ 8 * (n : Int)
  rotate_left
  · rw [show (if x < 0 then (2 : Int) else if y < 0 then 2 else if z < 0 then 2 else if ((8 * n : Nat) : Int) < x then 2 else if ((8 * n : Nat) : Int) < y then 2 else if ((8 * n : Nat) : Int) < z then 2 else 0) = ((2 : Nat) : Int) from by
      by_cases w1 : x < 0
      · rw [if_pos w1]; rfl
      rw [if_neg w1]
      by_cases w2 : y < 0
      · rw [if_pos w2]; rfl
      rw [if_neg w2]
      by_cases w3 : z < 0
      · rw [if_pos w3]; rfl
      rw [if_neg w3]
      by_cases w4 : ((8 * n : Nat) : Int) < x
      · rw [if_pos w4]; rfl
      rw [if_neg w4]
      by_cases w5 : ((8 * n : Nat) : Int) < y
      · rw [if_pos w5]; rfl
      rw [if_neg w5, if_pos (by omega)]
      rfl]
    exact Ends.mbad l (by omega) (c := 2) (by decide) rfl (bad 2 (by decide) (K _ _ (Or.inr (Or.inl ⟨ho, hp, rfl, rfl⟩))))
  rw [if_neg (show ¬ x < 0 by omega), if_neg (show ¬ y < 0 by omega), if_neg (show ¬ z < 0 by omega), if_neg (show ¬ ((8 * n : Nat) : Int) < x by omega), if_neg (show ¬ ((8 * n : Nat) : Int) < y by omega), if_neg (show ¬ ((8 * n : Nat) : Int) < z by omega)]
  refine Ends.mok l (by omega) rfl ?_
  have l2 : LX B n (hset h (B + 149) 0 0) := LX.setF 149 0 l (by decide +kernel)
  obtain ⟨s1, s2⟩ := (bd.fset 0 0).sol ho
  have m2 : TbM B (hset h (B + 149) 0 0) := m.agr (Agr.rf.set (W := fun c k => c = B + 149 ∧ k = 0) ⟨rfl, rfl⟩) (fun c k a1 a2 a3 w => by omega)
  have K2 := fun v q e g => K v q (Or.inr (Or.inr ⟨ho, hp, e, g⟩))
  clear K bad
  have vr := v806_is ho
  generalize hset h (B + 149) 0 0 = h2 at *
  generalize S (rwS o) = T at *
  generalize rwS o = ro at *
  obtain ⟨x, rfl⟩ : ∃ k : Nat, x = (k : Int) := ⟨x.toNat, by omega⟩
  obtain ⟨y, rfl⟩ : ∃ k : Nat, y = (k : Int) := ⟨y.toNat, by omega⟩
  obtain ⟨z, rfl⟩ : ∃ k : Nat, z = (k : Int) := ⟨z.toNat, by omega⟩
  have hx : x ≤ 8 * n := by omega
  have hy : y ≤ 8 * n := by omega
  have hz : z ≤ 8 * n := by omega
  rw [tn, tn, tn] at K2
  have lo : ∀ w : Nat, w ≤ 8 * n → bop32 100 (bop32 122 (bop32 96 (w : Int) 7) 3) 1 = (((w + 7) / 8 : Nat) : Int) - 1 := fun w hw => by
    rw [show bop32 96 (w : Int) 7 = ((w + 7 : Nat) : Int) from addNN (y := 7) (by omega), shr3 (by omega)]
    exact sub32 (by omega) (by omega)
  have hi : ∀ w : Nat, w ≤ 8 * n → bop32 122 (w : Int) 3 = ((w / 8 : Nat) : Int) := fun w hw => shr3 (by omega)
  have inc : ∀ e : Nat, e ≤ 100 → w32 ((e : Int) - 1 + 1) = ((e + 1 : Nat) : Int) - 1 := fun e he => by
    rw [show (e : Int) - 1 + 1 = (e : Int) by omega]
    exact (w32_id ⟨by omega, by omega⟩).trans (by omega)
  -- the sorts of one cube
  have lt : ∀ (e f g : Nat), (x + 7) / 8 ≤ e → e ≤ x / 8 + 1 → (y + 7) / 8 ≤ f → f ≤ y / 8 + 1 → (z + 7) / 8 ≤ g → g ≤ z / 8 + 1 → (1 ≤ e ∧ e ≤ n) → (1 ≤ f ∧ f ≤ n) → (1 ≤ g ∧ g ≤ n) → ∀ (c t : Nat) (so ev_ : Int) (A E : Prop) (q : AH) (u12 u13 : AV), t + c = 24 → LX B n q → Agr (fun c _ => c = B + 186) h2 q → mkI so ev_ A E → (∀ so' ev' u11 u12 u13 q', LX B n q' → Agr (fun c _ => c = B + 186) h2 q' → mkI so' ev' (A ∧ ∀ t', t ≤ t' → t' ≤ 23 → inP n x y z e f g t' = true → inG n T e f g t' = true) (E ∨ ∃ t', t ≤ t' ∧ t' ≤ 23 ∧ inP n x y z e f g t' = true ∧ inG n T e f g t' = true) → Ends (ev PP (gsF gv) B d 677 302 [(2, rf (B + 149)), (0, o), (0, (x : Int)), (0, (y : Int)), (0, (z : Int)), (0, ((8 * n : Nat) : Int)), (0, so'), (0, ev'), (0, (e : Int) - 1), (0, (f : Int) - 1), (0, (g : Int) - 1), u11, u12, u13] [] q') P) → Ends (ev PP (gsF gv) B d 677 213 [(2, rf (B + 149)), (0, o), (0, (x : Int)), (0, (y : Int)), (0, (z : Int)), (0, ((8 * n : Nat) : Int)), (0, so), (0, ev_), (0, (e : Int) - 1), (0, (f : Int) - 1), (0, (g : Int) - 1), (0, (t : Int)), u12, u13] [] q) P := by
    intro e f g e1 e2 f1 f2 g1 g2 he hf hg c
    induction c with
    | zero =>
      intro t so ev_ A E q u12 u13 ht lq gq i k
      obtain rfl : t = 24 := by omega
      refine Ends.eq (b677_213 lq (by omega)) ?_
      exact Ends.b3 (fun _ => k so ev_ _ _ _ q lq gq (i.cg (all_0 (X := fun t' => inP n x y z e f g t' = true → inG n T e f g t' = true) (by decide)) (ex_0 (X := fun t' => inP n x y z e f g t' = true ∧ inG n T e f g t' = true) (by decide)))) (fun w => absurd w (by decide))
    | succ c ih =>
      intro t so ev_ A E q u12 u13 ht lq gq i k
      have ht' : t < 24 := by omega
      have ez : ∀ k : Nat, 1 ≤ k → (k : Int) - 1 = ((k - 1 : Nat) : Int) := fun k hk => by omega
      have gl := gI_lt (n := n) (x := e - 1) (y := f - 1) (z := g - 1) (by omega) (by omega) (by omega) ht'
      have gx := gX_I (n := n) (x := e - 1) (y := f - 1) (z := g - 1) (by omega) ht'
      have gy := gY_I (n := n) (x := e - 1) (y := f - 1) (z := g - 1) (by omega) (by omega) ht'
      have gz := gZ_I (n := n) (x := e - 1) (y := f - 1) (z := g - 1) (by omega) (by omega) ht'
      have gs := gSo_I (n := n) (x := e - 1) (y := f - 1) (z := g - 1) ht'
      have gr := grain_is (n := n) (x := e - 1) (y := f - 1) (z := g - 1) hn (by omega) (by omega) (by omega) ht'
      have hpE : inP n x y z e f g t = hpB t ((x : Int) - 8 * ((e : Int) - 1)) ((y : Int) - 8 * ((f : Int) - 1)) ((z : Int) - 8 * ((g : Int) - 1)) := by
        unfold inP
        rw [decide_eq_true (by omega), Bool.true_and]
      have nx : ∀ (so1 ev1 : Int) (q1 : AH) (u12 u13 : AV), LX B n q1 → Agr (fun c _ => c = B + 186) h2 q1 → mkI so1 ev1 (A ∧ (inP n x y z e f g t = true → inG n T e f g t = true)) (E ∨ (inP n x y z e f g t = true ∧ inG n T e f g t = true)) → ∀ v12, u12 = (0, v12) → Ends (ev PP (gsF gv) B d 677 296 [(2, rf (B + 149)), (0, o), (0, (x : Int)), (0, (y : Int)), (0, (z : Int)), (0, ((8 * n : Nat) : Int)), (0, so1), (0, ev1), (0, (e : Int) - 1), (0, (f : Int) - 1), (0, (g : Int) - 1), (0, (t : Int)), u12, u13] [] q1) P := fun so1 ev1 q1 u12 u13 l1 g1 st v12 e12 => by
        subst e12
        refine Ends.eq (b677_296 l1 (by omega)) ?_
        rw [w_succ (by omega)]
        refine ih (t + 1) _ _ _ _ q1 _ _ (by omega) l1 g1 st (fun so' ev' u11 u12 u13 q' l' g' j => k so' ev' u11 u12 u13 q' l' g' (j.cg ?_ ?_))
        · exact all_st (X := fun t' => inP n x y z e f g t' = true → inG n T e f g t' = true) (by omega)
        · exact ex_st (X := fun t' => inP n x y z e f g t' = true ∧ inG n T e f g t' = true) (by omega)
      refine Ends.eq (b677_213 lq (by omega)) ?_
      rw [ez e he.1, ez f hf.1, ez g hg.1, gr, ← ez e he.1, ← ez f hf.1, ← ez g hg.1]
      refine Ends.b3 (fun w => absurd w (by omega)) (fun _ => ?_)
      refine Ends.ct lq (by decide +kernel) (by decide) (c_holds673 lq (by omega) hn0 hn (m2.agr gq (fun c k a1 a2 a3 w => by omega)) gl (by rw [gx]; omega) (by rw [gy]; omega) (by rw [gz]; omega)) (fun v q1 l1 _ _ _ ⟨ev1, g1⟩ => ?_)
      have G1 := gq.tr g1 (fun c k w => w)
      rw [gx, gy, gz, gs, ← ez e he.1, ← ez f hf.1, ← ez g hg.1, ← hpE] at ev1
      obtain ⟨f1', f2'⟩ := has_is (s1.agr G1 (fun j hj w => by omega)) (by omega) hn gl
      refine Ends.eq (b677_244 l1 (by omega)) ?_
      rw [ev1, vr, f2']
      cases hP : inP n x y z e f g t
      · exact Ends.b1 (fun w => absurd rfl w) (fun _ => nx _ _ q1 _ _ l1 G1 (i.cg ⟨fun a => ⟨a, fun w => by rw [hP] at w; exact absurd w Bool.false_ne_true⟩, fun a => a.1⟩ ⟨Or.inl, fun a => a.elim id (fun w => by rw [hP] at w; exact absurd w.1 Bool.false_ne_true)⟩) _ rfl)
      · refine Ends.b1 (fun _ => Ends.g f1' (nx _ _ q1 _ _ l1 G1 ?_ _ rfl)) (fun w => absurd w (by decide))
        rw [hP]
        exact i.step (inG n T e f g t)
  -- along z
  have lk : ∀ (e f : Nat), (x + 7) / 8 ≤ e → e ≤ x / 8 + 1 → (y + 7) / 8 ≤ f → f ≤ y / 8 + 1 → ∀ (c g : Nat) (so ev_ : Int) (A E : Prop) (q : AH) (u11 u12 u13 : AV), g + c = z / 8 + 2 → (z + 7) / 8 ≤ g → LX B n q → Agr (fun c _ => c = B + 186) h2 q → mkI so ev_ A E → (∀ so' ev' u10 u11 u12 u13 q', LX B n q' → Agr (fun c _ => c = B + 186) h2 q' → mkI so' ev' (A ∧ ∀ g', g ≤ g' → g' ≤ z / 8 + 1 → inX n T x y z e f g') (E ∨ ∃ g', g ≤ g' ∧ g' ≤ z / 8 + 1 ∧ inY n T x y z e f g') → Ends (ev PP (gsF gv) B d 677 137 [(2, rf (B + 149)), (0, o), (0, (x : Int)), (0, (y : Int)), (0, (z : Int)), (0, ((8 * n : Nat) : Int)), (0, so'), (0, ev'), (0, (e : Int) - 1), (0, ((f + 1 : Nat) : Int) - 1), u10, u11, u12, u13] [] q') P) → Ends (ev PP (gsF gv) B d 677 156 [(2, rf (B + 149)), (0, o), (0, (x : Int)), (0, (y : Int)), (0, (z : Int)), (0, ((8 * n : Nat) : Int)), (0, so), (0, ev_), (0, (e : Int) - 1), (0, (f : Int) - 1), (0, (g : Int) - 1), u11, u12, u13] [] q) P := by
    intro e f e1 e2 f1 f2 c
    induction c with
    | zero =>
      intro g so ev_ A E q u11 u12 u13 hg g0 lq gq i k
      refine Ends.eq (b677_156 lq (by omega)) ?_
      rw [hi z hz, inc f (by omega)]
      exact Ends.b4 (fun _ => k so ev_ _ _ _ _ q lq gq (i.cg (all_0 (X := fun g' => inX n T x y z e f g') (by omega)) (ex_0 (X := fun g' => inY n T x y z e f g') (by omega)))) (fun w => absurd w (by omega))
    | succ c ih =>
      intro g so ev_ A E q u11 u12 u13 hg g0 lq gq i k
      have nx : ∀ (so ev_ : Int) (q : AH) (u11 u12 u13 : AV), LX B n q → Agr (fun c _ => c = B + 186) h2 q → mkI so ev_ (A ∧ inX n T x y z e f g) (E ∨ inY n T x y z e f g) → Ends (ev PP (gsF gv) B d 677 302 [(2, rf (B + 149)), (0, o), (0, (x : Int)), (0, (y : Int)), (0, (z : Int)), (0, ((8 * n : Nat) : Int)), (0, so), (0, ev_), (0, (e : Int) - 1), (0, (f : Int) - 1), (0, (g : Int) - 1), u11, u12, u13] [] q) P := fun so ev_ q u11 u12 u13 lq gq j => by
        refine Ends.eq (b677_302 lq (by omega)) ?_
        rw [inc g (by omega)]
        refine ih (g + 1) so ev_ _ _ q u11 u12 u13 (by omega) (by omega) lq gq j (fun so' ev' u10 u11 u12 u13 q' l' g' j2 => k so' ev' u10 u11 u12 u13 q' l' g' (j2.cg ?_ ?_))
        · exact all_st (X := fun g' => inX n T x y z e f g') (by omega)
        · exact ex_st (X := fun g' => inY n T x y z e f g') (by omega)
      have out : ¬ (1 ≤ e ∧ e ≤ n ∧ 1 ≤ f ∧ f ≤ n ∧ 1 ≤ g ∧ g ≤ n) → Ends (ev PP (gsF gv) B d 677 302 [(2, rf (B + 149)), (0, o), (0, (x : Int)), (0, (y : Int)), (0, (z : Int)), (0, ((8 * n : Nat) : Int)), (0, so), (0, ev_), (0, (e : Int) - 1), (0, (f : Int) - 1), (0, (g : Int) - 1), u11, u12, u13] [] q) P := fun w => by
        have no : ∀ t, inP n x y z e f g t = false := fun t => by unfold inP; rw [decide_eq_false w, Bool.false_and]
        refine nx so ev_ q u11 u12 u13 lq gq (i.cg ⟨fun a => ⟨a, fun t _ _ r => ?_⟩, fun a => a.1⟩ ⟨Or.inl, fun a => ?_⟩)
        · rw [no t] at r; exact absurd r Bool.false_ne_true
        · rcases a with a | ⟨t, _, _, r, _⟩
          · exact a
          · rw [no t] at r; exact absurd r Bool.false_ne_true
      refine Ends.eq (b677_156 lq (by omega)) ?_
      rw [hi z hz]
      refine Ends.b4 (fun w => absurd w (by omega)) (fun _ => ?_)
      refine Ends.b2 (fun w => out (by omega)) (fun w1 => Ends.b2 (fun w => out (by omega)) (fun w2 => Ends.b2 (fun w => out (by omega)) (fun w3 => Ends.b3 (fun w => out (by omega)) (fun w4 => Ends.b3 (fun w => out (by omega)) (fun w5 => Ends.b2 (fun w6 => ?_) (fun w => out (by omega)))))))
      exact lt e f g e1 e2 f1 f2 g0 (by omega) ⟨by omega, by omega⟩ ⟨by omega, by omega⟩ ⟨by omega, by omega⟩ 24 0 so ev_ A E q _ _ rfl lq gq i (fun so' ev' u11 u12 u13 q' l' g' j => nx so' ev' q' u11 u12 u13 l' g' j)
  -- along y
  have lj : ∀ (e : Nat), (x + 7) / 8 ≤ e → e ≤ x / 8 + 1 → ∀ (c f : Nat) (so ev_ : Int) (A E : Prop) (q : AH) (u10 u11 u12 u13 : AV), f + c = y / 8 + 2 → (y + 7) / 8 ≤ f → LX B n q → Agr (fun c _ => c = B + 186) h2 q → mkI so ev_ A E → (∀ so' ev' u9 u10 u11 u12 u13 q', LX B n q' → Agr (fun c _ => c = B + 186) h2 q' → mkI so' ev' (A ∧ ∀ f', f ≤ f' → f' ≤ y / 8 + 1 → ∀ g, (z + 7) / 8 ≤ g → g ≤ z / 8 + 1 → inX n T x y z e f' g) (E ∨ ∃ f', f ≤ f' ∧ f' ≤ y / 8 + 1 ∧ ∃ g, (z + 7) / 8 ≤ g ∧ g ≤ z / 8 + 1 ∧ inY n T x y z e f' g) → Ends (ev PP (gsF gv) B d 677 119 [(2, rf (B + 149)), (0, o), (0, (x : Int)), (0, (y : Int)), (0, (z : Int)), (0, ((8 * n : Nat) : Int)), (0, so'), (0, ev'), (0, ((e + 1 : Nat) : Int) - 1), u9, u10, u11, u12, u13] [] q') P) → Ends (ev PP (gsF gv) B d 677 137 [(2, rf (B + 149)), (0, o), (0, (x : Int)), (0, (y : Int)), (0, (z : Int)), (0, ((8 * n : Nat) : Int)), (0, so), (0, ev_), (0, (e : Int) - 1), (0, (f : Int) - 1), u10, u11, u12, u13] [] q) P := by
    intro e e1 e2 c
    induction c with
    | zero =>
      intro f so ev_ A E q u10 u11 u12 u13 hf f0 lq gq i k
      refine Ends.eq (b677_137 lq (by omega)) ?_
      rw [hi y hy, inc e (by omega)]
      exact Ends.b4 (fun _ => k so ev_ _ _ _ _ _ q lq gq (i.cg (all_0 (X := fun f' => ∀ g, (z + 7) / 8 ≤ g → g ≤ z / 8 + 1 → inX n T x y z e f' g) (by omega)) (ex_0 (X := fun f' => ∃ g, (z + 7) / 8 ≤ g ∧ g ≤ z / 8 + 1 ∧ inY n T x y z e f' g) (by omega)))) (fun w => absurd w (by omega))
    | succ c ih =>
      intro f so ev_ A E q u10 u11 u12 u13 hf f0 lq gq i k
      refine Ends.eq (b677_137 lq (by omega)) ?_
      rw [hi y hy, lo z hz]
      refine Ends.b4 (fun w => absurd w (by omega)) (fun _ => ?_)
      refine lk e f e1 e2 f0 (by omega) (z / 8 + 2 - (z + 7) / 8) ((z + 7) / 8) so ev_ A E q u11 u12 u13 (by omega) (Nat.le_refl _) lq gq i (fun so' ev' u10 u11 u12 u13 q' l' g' j => ?_)
      refine ih (f + 1) so' ev' _ _ q' u10 u11 u12 u13 (by omega) (by omega) l' g' j (fun so' ev' u9 u10 u11 u12 u13 q' l' g' j2 => k so' ev' u9 u10 u11 u12 u13 q' l' g' (j2.cg ?_ ?_))
      · exact all_st (X := fun f' => ∀ g, (z + 7) / 8 ≤ g → g ≤ z / 8 + 1 → inX n T x y z e f' g) (by omega)
      · exact ex_st (X := fun f' => ∃ g, (z + 7) / 8 ≤ g ∧ g ≤ z / 8 + 1 ∧ inY n T x y z e f' g) (by omega)
  -- along x
  have li : ∀ (c e : Nat) (so ev_ : Int) (A E : Prop) (q : AH) (u9 u10 u11 u12 u13 : AV), e + c = x / 8 + 2 → (x + 7) / 8 ≤ e → LX B n q → Agr (fun c _ => c = B + 186) h2 q → mkI so ev_ A E → (∀ so' ev' q', Agr (fun c _ => c = B + 186) h2 q' → mkI so' ev' (A ∧ ∀ e', e ≤ e' → e' ≤ x / 8 + 1 → ∀ f, (y + 7) / 8 ≤ f → f ≤ y / 8 + 1 → ∀ g, (z + 7) / 8 ≤ g → g ≤ z / 8 + 1 → inX n T x y z e' f g) (E ∨ ∃ e', e ≤ e' ∧ e' ≤ x / 8 + 1 ∧ ∃ f, (y + 7) / 8 ≤ f ∧ f ≤ y / 8 + 1 ∧ ∃ g, (z + 7) / 8 ≤ g ∧ g ≤ z / 8 + 1 ∧ inY n T x y z e' f g) → P ((0, (0, cond (tst 0 ev' 0) (cond (tst 0 so' 0) (0 : Int) 2) 1)), q')) → Ends (ev PP (gsF gv) B d 677 119 [(2, rf (B + 149)), (0, o), (0, (x : Int)), (0, (y : Int)), (0, (z : Int)), (0, ((8 * n : Nat) : Int)), (0, so), (0, ev_), (0, (e : Int) - 1), u9, u10, u11, u12, u13] [] q) P := by
    intro c
    induction c with
    | zero =>
      intro e so ev_ A E q u9 u10 u11 u12 u13 he e0 lq gq i k
      refine Ends.eq (b677_119 lq (by omega)) ?_
      rw [hi x hx]
      exact Ends.b4 (fun _ => Ends.sm (k so ev_ q gq (i.cg (all_0 (X := fun e' => ∀ f, (y + 7) / 8 ≤ f → f ≤ y / 8 + 1 → ∀ g, (z + 7) / 8 ≤ g → g ≤ z / 8 + 1 → inX n T x y z e' f g) (by omega)) (ex_0 (X := fun e' => ∃ f, (y + 7) / 8 ≤ f ∧ f ≤ y / 8 + 1 ∧ ∃ g, (z + 7) / 8 ≤ g ∧ g ≤ z / 8 + 1 ∧ inY n T x y z e' f g) (by omega))))) (fun w => absurd w (by omega))
    | succ c ih =>
      intro e so ev_ A E q u9 u10 u11 u12 u13 he e0 lq gq i k
      refine Ends.eq (b677_119 lq (by omega)) ?_
      rw [hi x hx, lo y hy]
      refine Ends.b4 (fun w => absurd w (by omega)) (fun _ => ?_)
      refine lj e e0 (by omega) (y / 8 + 2 - (y + 7) / 8) ((y + 7) / 8) so ev_ A E q u10 u11 u12 u13 (by omega) (Nat.le_refl _) lq gq i (fun so' ev' u9 u10 u11 u12 u13 q' l' g' j => ?_)
      refine ih (e + 1) so' ev' _ _ q' u9 u10 u11 u12 u13 (by omega) (by omega) l' g' j (fun so' ev' q' g' j2 => k so' ev' q' g' (j2.cg ?_ ?_))
      · exact all_st (X := fun e' => ∀ f, (y + 7) / 8 ≤ f → f ≤ y / 8 + 1 → ∀ g, (z + 7) / 8 ≤ g → g ≤ z / 8 + 1 → inX n T x y z e' f g) (by omega)
      · exact ex_st (X := fun e' => ∃ f, (y + 7) / 8 ≤ f ∧ f ≤ y / 8 + 1 ∧ ∃ g, (z + 7) / 8 ≤ g ∧ g ≤ z / 8 + 1 ∧ inY n T x y z e' f g) (by omega)
  -- a point within has a grain
  have cov : ¬ inB n x y z → inA n T x y z → inE n T x y z := fun nb al => by
    unfold inB at nb
    obtain ⟨t, ht⟩ := hp_cover ⟨x % 8, by omega⟩ ⟨y % 8, by omega⟩ ⟨z % 8, by omega⟩
    simp only at ht
    have pe : inP n x y z (x / 8 + 1) (y / 8 + 1) (z / 8 + 1) t = true := by
      unfold inP
      rw [decide_eq_true (by omega), Bool.true_and, show (x : Int) - 8 * (((x / 8 + 1 : Nat) : Int) - 1) = ((x % 8 : Nat) : Int) by omega, show (y : Int) - 8 * (((y / 8 + 1 : Nat) : Int) - 1) = ((y % 8 : Nat) : Int) by omega, show (z : Int) - 8 * (((z / 8 + 1 : Nat) : Int) - 1) = ((z % 8 : Nat) : Int) by omega]
      exact ht
    have t24 := t.2
    exact ⟨_, by omega, Nat.le_refl _, _, by omega, Nat.le_refl _, _, by omega, Nat.le_refl _, t, Nat.zero_le _, by omega, pe, al _ (by omega) (Nat.le_refl _) _ (by omega) (Nat.le_refl _) _ (by omega) (Nat.le_refl _) t (Nat.zero_le _) (by omega) pe⟩
  have i0 : mkI 0 (if ¬ (x = 0 ∨ y = 0 ∨ z = 0 ∨ x = 8 * n ∨ y = 8 * n ∨ z = 8 * n) then 1 else 0) (¬ inB n x y z) False := by
    refine ⟨Or.inl rfl, ?_, ?_, ⟨fun w => absurd w (by decide), fun w => w.elim⟩⟩
    · by_cases w : x = 0 ∨ y = 0 ∨ z = 0 ∨ x = 8 * n ∨ y = 8 * n ∨ z = 8 * n
      · rw [if_neg (fun q => q w)]; exact Or.inl rfl
      · rw [if_pos w]; exact Or.inr rfl
    · by_cases w : x = 0 ∨ y = 0 ∨ z = 0 ∨ x = 8 * n ∨ y = 8 * n ∨ z = 8 * n
      · rw [if_neg (fun q => q w)]; exact ⟨fun q => absurd q (by decide), fun q => absurd w q⟩
      · rw [if_pos w]; exact ⟨fun _ => w, fun _ => rfl⟩
  have e0 : cond (tst 5 (x : Int) 0) (0 : Int) (cond (tst 5 (y : Int) 0) 0 (cond (tst 5 (z : Int) 0) 0 (cond (tst 3 (x : Int) ((8 * n : Nat) : Int)) 0 (cond (tst 3 (y : Int) ((8 * n : Nat) : Int)) 0 (cond (tst 3 (z : Int) ((8 * n : Nat) : Int)) 0 1))))) = if ¬ (x = 0 ∨ y = 0 ∨ z = 0 ∨ x = 8 * n ∨ y = 8 * n ∨ z = 8 * n) then 1 else 0 := by
    rw [ct5, ct5, ct5, ct3, ct3, ct3]
    by_cases h1 : (0 : Int) < (x : Int)
    rotate_left
    · rw [if_neg h1, if_neg (by omega)]
    rw [if_pos h1]
    by_cases h2 : (0 : Int) < (y : Int)
    rotate_left
    · rw [if_neg h2, if_neg (by omega)]
    rw [if_pos h2]
    by_cases h3 : (0 : Int) < (z : Int)
    rotate_left
    · rw [if_neg h3, if_neg (by omega)]
    rw [if_pos h3]
    by_cases h4 : (x : Int) < ((8 * n : Nat) : Int)
    rotate_left
    · rw [if_neg h4, if_neg (by omega)]
    rw [if_pos h4]
    by_cases h5 : (y : Int) < ((8 * n : Nat) : Int)
    rotate_left
    · rw [if_neg h5, if_neg (by omega)]
    rw [if_pos h5]
    by_cases h6 : (z : Int) < ((8 * n : Nat) : Int)
    rotate_left
    · rw [if_neg h6, if_neg (by omega)]
    rw [if_pos h6, if_pos (by omega)]
  refine Ends.eq (b677_62 (n := n) (by (repeat' first | assumption | refine LX.setF _ _ ?_ (by decide +kernel) | refine LX.setS ?_ rfl | refine LX.setA ?_ (by first | assumption | omega))) (by first | assumption | omega)) ?_
  rw [e0, lo x hx]
  refine Ends.b0 (fun _ => ?_) (fun w => absurd rfl w)
  refine li (x / 8 + 2 - (x + 7) / 8) ((x + 7) / 8) 0 _ _ False h2 _ _ _ _ _ (by omega) (Nat.le_refl _) l2 Agr.rf i0 (fun so ev_ q gq i => K2 _ q ?_ gq)
  obtain ⟨i1, i2, i3, i4⟩ := i
  have a3 : ev_ = 1 ↔ (¬ inB n x y z ∧ inA n T x y z) := i3
  have a4 : so = 1 ↔ inE n T x y z := i4.trans ⟨fun w => w.resolve_left id, Or.inr⟩
  rw [ct0, ct0]
  unfold insS
  rcases i2 with rfl | rfl
  · have na : ¬ (inA n T x y z ∧ ¬ inB n x y z) := fun w => absurd (a3.mpr ⟨w.2, w.1⟩) (by decide)
    rw [if_pos rfl]
    rcases i1 with rfl | rfl
    · rw [if_pos rfl, if_pos (show ¬ inE n T x y z from fun w => absurd (a4.mpr w) (by decide))]
    · rw [if_neg (show ¬ (1 : Int) = 0 by decide), if_neg (show ¬ ¬ inE n T x y z from fun w => w (a4.mp rfl)), if_neg na]
  · have ya := a3.mp rfl
    rw [if_neg (show ¬ (1 : Int) = 0 by decide), if_neg (show ¬ ¬ inE n T x y z from fun w => w (cov ya.1 ya.2)), if_pos (show inA n T x y z ∧ ¬ inB n x y z from ⟨ya.2, ya.1⟩)]
end MINS
