/-! L3: the model's shadow and what its tool goes over -/
section MSH
variable {gv : Nat → Int} {B n d r : Nat} {h : AH} {S : Nat → Bool}
/-- column k of the shadow: sort k % 24 over square (k / 24 % n, k / 24 / n) -/
def ShM (B n : Nat) (h : AH) (D : Nat → Bool) : Prop := ∀ k, k < 24 * n * n → hv h (B + 241) k = if D k = true then 1 else 0
theorem ShM.congr {D D' : Nat → Bool} (s : ShM B n h D) (e : ∀ k, k < 24 * n * n → D k = D' k) : ShM B n h D' := fun k hk => by rw [← e k hk]; exact s k hk
def shT (z0 : Nat) (n : Nat) (S : Nat → Bool) (k : Nat) : Prop := ∃ z, z0 ≤ z ∧ z < n ∧ S (gI n (k / 24 % n) (k / 24 / n) z (k % 24)) = true
theorem n24 {n : Nat} (hn : n ≤ 52) : 24 * n * n ≤ 64896 := by
  have := Nat.mul_le_mul (Nat.mul_le_mul_left 24 hn) hn
  omega
theorem c24 {n : Nat} (hn : n ≤ 52) : bop32 104 (bop32 104 24 (n : Int)) (n : Int) = ((24 * n * n : Nat) : Int) := by
  have := n24 hn
  rw [show bop32 104 (24 : Int) (n : Int) = ((24 * n : Nat) : Int) from mulNN (x := 24) (by omega), mulNN (by omega)]
/-- a grain is in column g % (24 n n), layer g / (24 n n) -/
theorem g_col {g : Nat} (hg : g < gN n) : g % (24 * n * n) / 24 % n = gX n g ∧ g % (24 * n * n) / 24 / n = gY n g ∧ g % (24 * n * n) % 24 = gSo g ∧ g % (24 * n * n) < 24 * n * n := by
  obtain ⟨h0, x1, x2, x3, x4⟩ := g_lt hg
  have e : g = gZ n g * (24 * n * n) + (24 * (gY n g * n + gX n g) + gSo g) := by
    have := gI_g (n := n) (g := g)
    unfold gI at this
    rw [Nat.add_mul, Nat.mul_add, Nat.mul_add] at this
    rw [Nat.mul_add]
    have a1 : 24 * (gZ n g * n * n) = gZ n g * (24 * n * n) := by
      rw [Nat.mul_assoc, Nat.mul_assoc, Nat.mul_left_comm]
    omega
  have b1 : gY n g * n + gX n g < n * n := by
    have := Nat.mul_le_mul_right n (show gY n g + 1 ≤ n by omega)
    rw [Nat.add_mul, Nat.one_mul] at this
    omega
  have lt : 24 * (gY n g * n + gX n g) + gSo g < 24 * n * n := by
    rw [Nat.mul_assoc]
    omega
  have em : g % (24 * n * n) = 24 * (gY n g * n + gX n g) + gSo g := by
    conv => lhs; rw [e]
    rw [Nat.mul_comm (gZ n g), Nat.mul_add_mod, Nat.mod_eq_of_lt lt]
  rw [em]
  have d1 := dm (a := gY n g) x1
  refine ⟨?_, ?_, ?_, lt⟩
  · rw [show (24 * (gY n g * n + gX n g) + gSo g) / 24 = gY n g * n + gX n g by omega]; exact d1.2
  · rw [show (24 * (gY n g * n + gX n g) + gSo g) / 24 = gY n g * n + gX n g by omega]; exact d1.1
  · omega
theorem col_lt {k : Nat} (hk : k < 24 * n * n) : k / 24 % n < n ∧ k / 24 / n < n ∧ 0 < n ∧ k = 24 * (k / 24 / n * n + k / 24 % n) + k % 24 := by
  have n0 : 0 < n := by
    rcases Nat.eq_zero_or_pos n with z | z
    · rw [z] at hk; simp at hk
    · exact z
  have h1 : k / 24 < n * n := Nat.div_lt_of_lt_mul (by rw [Nat.mul_assoc] at hk; exact hk)
  have h2 : k / 24 / n < n := Nat.div_lt_of_lt_mul h1
  refine ⟨Nat.mod_lt _ n0, h2, n0, ?_⟩
  have := Nat.div_add_mod (k / 24) n
  rw [Nat.mul_comm n] at this
  omega
theorem c_shade819 {s z0 : Nat} (l : LX B n h) (hd : 10 ≤ d) (hn : n ≤ 52) (hs : s < 19) (m : TbM B h) (b : MB B n h s S) (hz0 : z0 ≤ n) :
    Vd (cll PP (ev PP (gsF gv) B) d 819 [(2, rf (B + 149)), (0, (s : Int)), (0, (z0 : Int))] h) (fun h' => Agr (fun c _ => c = B + 241) h h' ∧ ∃ D, ShM B n h' D ∧ ∀ k, k < 24 * n * n → (D k = true ↔ shT z0 n S k)) := by
  have hG := gN_le hn
  have h24 := n24 hn
  refine Vd.inq (D := 9) hd (Nat.le_of_ble_eq_true rfl) rfl (fun d hd P K => ?_)
  have key : ∀ (c g : Nat) (q : AH) (D : Nat → Bool), g + c = gN n → LX B n q → Agr (fun c _ => c = B + 241) h q → ShM B n q D → (∀ k, k < 24 * n * n → (D k = true ↔ ∃ g', g' < g ∧ S g' = true ∧ z0 ≤ gZ n g' ∧ g' % (24 * n * n) = k)) → Ends (ev PP (gsF gv) B d 819 26 [(2, rf (B + 149)), (0, (s : Int)), (0, (z0 : Int)), (0, (g : Int))] [] q) P := by
    intro c
    induction c with
    | zero =>
      intro g q D hg lq gq sq hD
      obtain rfl : g = gN n := by omega
      refine Ends.eq (b819_26 (n := n) (by (repeat' first | assumption | refine LX.setF _ _ ?_ (by decide +kernel) | refine LX.setS ?_ rfl | refine LX.setA ?_ (by first | assumption | omega))) (by first | assumption | omega)) ?_
      refine Ends.b3 (fun _ => Ends.sm (K _ ⟨gq, D, sq, fun k hk => ?_⟩)) (fun z => by omega)
      rw [hD k hk]
      constructor
      · rintro ⟨g', h1, h2, h3, h4⟩
        obtain ⟨c1, c2, c3, _⟩ := g_col h1
        rw [h4] at c1 c2 c3
        refine ⟨gZ n g', h3, (g_lt h1).2.2.2.1, ?_⟩
        rw [c1, c2, c3, gI_g]
        exact h2
      · rintro ⟨z, h1, h2, h3⟩
        obtain ⟨k1, k2, k3, k4⟩ := col_lt hk
        have ht : k % 24 < 24 := Nat.mod_lt _ (by decide)
        have hg' := gI_lt k1 k2 h2 ht
        refine ⟨_, hg', h3, by rw [gZ_I k1 k2 ht]; exact h1, ?_⟩
        obtain ⟨c1, c2, c3, c4⟩ := g_col hg'
        rw [gX_I k1 ht] at c1
        rw [gY_I k1 k2 ht] at c2
        rw [gSo_I ht] at c3
        obtain ⟨_, _, _, k5⟩ := col_lt c4
        rw [c1, c2, c3] at k5
        omega
    | succ c ih =>
      intro g q D hg lq gq sq hD
      have hgn : g < gN n := by omega
      have mq : TbM B q := m.agr gq (fun c k h1 h2 h3 z => by omega)
      obtain ⟨a1, a2⟩ := has_is (b.agr gq (fun k hk z => by omega)) hs hn hgn
      obtain ⟨c1, c2⟩ := coord_is mq hn hgn (a := 2) (by decide)
      have g2 := g8_lt hgn 2
      have gc := g_col hgn
      have zz : (g8 n g 2 : Nat) = 8 * gZ n g + rT (gSo g) 2 := rfl
      have rr : 1 ≤ rT (gSo g) 2 ∧ rT (gSo g) 2 < 8 := rT_lt ⟨gSo g, (g_lt hgn).2.2.2.2⟩ 2
      have nx : ∀ (q2 : AH) (D2 : Nat → Bool), LX B n q2 → Agr (fun c _ => c = B + 241) h q2 → ShM B n q2 D2 → (∀ k, k < 24 * n * n → (D2 k = true ↔ ∃ g', g' < g + 1 ∧ S g' = true ∧ z0 ≤ gZ n g' ∧ g' % (24 * n * n) = k)) → Ends (ev PP (gsF gv) B d 819 76 [(2, rf (B + 149)), (0, (s : Int)), (0, (z0 : Int)), (0, (g : Int))] [] q2) P := fun q2 D2 l2 g2 s2 h2 => by
        refine Ends.eq (b819_76 (n := n) (by (repeat' first | assumption | refine LX.setF _ _ ?_ (by decide +kernel) | refine LX.setS ?_ rfl | refine LX.setA ?_ (by first | assumption | omega))) (by first | assumption | omega)) ?_
        rw [w_succ (by omega)]
        exact ih (g + 1) q2 D2 (by omega) l2 g2 s2 h2
      have same : ¬ (S g = true ∧ z0 ≤ gZ n g) → Ends (ev PP (gsF gv) B d 819 76 [(2, rf (B + 149)), (0, (s : Int)), (0, (z0 : Int)), (0, (g : Int))] [] q) P := fun ns => nx q D lq gq sq (fun k hk => by
        rw [hD k hk]
        constructor
        · rintro ⟨g', h1, h2⟩; exact ⟨g', by omega, h2⟩
        · rintro ⟨g', h1, h2, h3, h4⟩
          refine ⟨g', ?_, h2, h3, h4⟩
          have : g' ≠ g := fun e => by rw [e] at h2 h3; exact ns ⟨h2, h3⟩
          omega)
      refine Ends.eq (b819_26 (n := n) (by (repeat' first | assumption | refine LX.setF _ _ ?_ (by decide +kernel) | refine LX.setS ?_ rfl | refine LX.setA ?_ (by first | assumption | omega))) (by first | assumption | omega)) ?_
      rw [a2, show (2 : Int) = ((2 : Nat) : Int) from rfl, c2, show bop32 104 (8 : Int) (z0 : Int) = ((8 * z0 : Nat) : Int) from mulNN (x := 8) (by omega), c24 hn, show bop32 112 (g : Int) ((24 * n * n : Nat) : Int) = ((g % (24 * n * n) : Nat) : Int) from modNN (by omega) (by omega), tn]
      refine Ends.b3 (fun z => by omega) (fun _ => Ends.g a1 ?_)
      cases hS : S g
      · exact Ends.b0 (fun _ => same (fun z => by rw [hS] at z; exact absurd z.1 (by decide))) (fun z => absurd rfl z)
      refine Ends.b0 (fun z => absurd z (by decide)) (fun _ => Ends.g c1 (Ends.b5 (fun z => same (fun w => by omega)) (fun z => Ends.g (by omega) (Ends.g ⟨by omega, by omega⟩ ?_))))
      refine nx _ (fun k => D k || decide (k = g % (24 * n * n))) (LX.setA (t := 3) lq (by rw [lq.1 241 _ rfl])) (gq.set rfl) (fun k hk => ?_) (fun k hk => ?_)
      · by_cases e : k = g % (24 * n * n)
        · rw [e, hv_set_at]; simp; rfl
        · rw [hv_set_ne (by omega), sq k hk]; simp [e]
      · rw [Bool.or_eq_true, decide_eq_true_eq, hD k hk]
        constructor
        · rintro (⟨g', h1, h2⟩ | e)
          · exact ⟨g', by omega, h2⟩
          · exact ⟨g, by omega, hS, by omega, e.symm⟩
        · rintro ⟨g', h1, h2, h3, h4⟩
          by_cases e : g' = g
          · rw [e] at h4; exact Or.inr h4.symm
          · exact Or.inl ⟨g', by omega, h2, h3, h4⟩
  have clr : ∀ (c k : Nat) (q : AH), k + c = 24 * n * n → LX B n q → Agr (fun c _ => c = B + 241) h q → (∀ j, j < k → hv q (B + 241) j = 0) → Ends (ev PP (gsF gv) B d 819 2 [(2, rf (B + 149)), (0, (s : Int)), (0, (z0 : Int)), (0, (k : Int))] [] q) P := by
    intro c
    induction c with
    | zero =>
      intro k q hk lq gq lo
      refine Ends.eq (b819_2 (n := n) (by (repeat' first | assumption | refine LX.setF _ _ ?_ (by decide +kernel) | refine LX.setS ?_ rfl | refine LX.setA ?_ (by first | assumption | omega))) (by first | assumption | omega)) ?_
      refine Ends.b3 (fun _ => key (gN n) 0 q (fun _ => false) (by omega) lq gq (fun k hk => lo k (by omega)) (fun k hk => ⟨fun z => absurd z Bool.false_ne_true, fun ⟨g', h1, _⟩ => absurd h1 (by omega)⟩)) (fun z => by omega)
    | succ c ih =>
      intro k q hk lq gq lo
      refine Ends.eq (b819_2 (n := n) (by (repeat' first | assumption | refine LX.setF _ _ ?_ (by decide +kernel) | refine LX.setS ?_ rfl | refine LX.setA ?_ (by first | assumption | omega))) (by first | assumption | omega)) ?_
      rw [tn, w_succ (by omega)]
      refine Ends.b3 (fun z => by omega) (fun _ => Ends.g ⟨by omega, by omega⟩ ?_)
      refine ih (k + 1) _ (by omega) (LX.setA (t := 3) lq (by rw [lq.1 241 _ rfl])) (gq.set rfl) (fun j hj => ?_)
      by_cases z : j = k
      · rw [z]; exact hv_set_at ..
      · rw [hv_set_ne (by omega)]; exact lo j (by omega)
  refine Ends.eq (b819_0 (n := n) (by (repeat' first | assumption | refine LX.setF _ _ ?_ (by decide +kernel) | refine LX.setS ?_ rfl | refine LX.setA ?_ (by first | assumption | omega))) (by first | assumption | omega)) ?_
  exact clr (24 * n * n) 0 h (by omega) l Agr.rf (fun j hj => absurd hj (by omega))
/-- a column under the tool between two places of a row -/
def unM (r x to y u v t : Nat) : Bool := und r (8 * ((u : Int) - x) + (rT t 0 : Nat)) (8 * ((v : Int) - y) + (rT t 1 : Nat)) (to - x)
theorem v721_is {x to y u v t : Nat} (hr : r ≤ 8) (hx : x ≤ to) (hto : to ≤ 52) (hy : y ≤ 52) (hu : u < 52) (hv : v < 52) (ht : t < 24) : v721 (bop32 96 (bop32 104 8 (u : Int)) ((rT t 0 : Nat) : Int)) (bop32 96 (bop32 104 8 (v : Int)) ((rT t 1 : Nat) : Int)) (x : Int) (to : Int) (y : Int) (r : Int) = if unM r x to y u v t = true then 1 else 0 := by
  have r0 : 1 ≤ rT t 0 ∧ rT t 0 < 8 := rT_lt ⟨t, ht⟩ 0
  have r1 : 1 ≤ rT t 1 ∧ rT t 1 < 8 := rT_lt ⟨t, ht⟩ 1
  rw [show bop32 104 (8 : Int) (u : Int) = 8 * (u : Int) from mul32 (by omega) (by omega), show bop32 104 (8 : Int) (v : Int) = 8 * (v : Int) from mul32 (by omega) (by omega), add32 (by omega) (by omega), add32 (by omega) (by omega)]
  have hund : unM r x to y u v t = true ↔ (-(8 * ((u : Int) - x) + (rT t 0 : Nat)) ≤ 8 * (r : Int) ∧ 8 * ((u : Int) - x) + (rT t 0 : Nat) - 8 * ((to - x : Nat) : Int) ≤ 8 * (r : Int) ∧ 8 * ((v : Int) - y) + (rT t 1 : Nat) ≤ 8 * (r : Int) ∧ -(8 * ((v : Int) - y) + (rT t 1 : Nat)) ≤ 8 * (r : Int)) ∧ 8 * ((v : Int) - y) + (rT t 1 : Nat) ≤ 8 * (ocK r : Int) ∧ -(8 * ((v : Int) - y) + (rT t 1 : Nat)) ≤ 8 * (ocK r : Int) ∧ 8 * ((v : Int) - y) + (rT t 1 : Nat) - (8 * ((u : Int) - x) + (rT t 0 : Nat)) ≤ 8 * (ocK r : Int) ∧ -(8 * ((v : Int) - y) + (rT t 1 : Nat)) - (8 * ((u : Int) - x) + (rT t 0 : Nat)) ≤ 8 * (ocK r : Int) ∧ 8 * ((u : Int) - x) + (rT t 0 : Nat) - 8 * ((to - x : Nat) : Int) + (8 * ((v : Int) - y) + (rT t 1 : Nat)) ≤ 8 * (ocK r : Int) ∧ 8 * ((u : Int) - x) + (rT t 0 : Nat) - 8 * ((to - x : Nat) : Int) - (8 * ((v : Int) - y) + (rT t 1 : Nat)) ≤ 8 * (ocK r : Int) := by unfold unM und; rw [decide_eq_true_eq]
  unfold v721 v695
  generalize rT t 0 = a at r0 hund ⊢
  generalize rT t 1 = b at r1 hund ⊢
  have hK : ocK r ≤ 12 := by unfold ocK; omega
  rw [show bop32 104 (8 : Int) (x : Int) = 8 * (x : Int) from mul32 (by omega) (by omega), show bop32 104 (8 : Int) (to : Int) = 8 * (to : Int) from mul32 (by omega) (by omega), show bop32 104 (8 : Int) (y : Int) = 8 * (y : Int) from mul32 (by omega) (by omega), show bop32 104 (8 : Int) (r : Int) = 8 * (r : Int) from mul32 (by omega) (by omega), sub32 (x := 8 * (u : Int) + a) (by omega) (by omega), sub32 (x := 8 * (x : Int)) (by omega) (by omega), sub32 (x := 8 * (v : Int) + b) (by omega) (by omega), mul32 (x := 181) (by omega) (by omega), add32 (y := 64) (by omega) (by omega), show (181 * (r : Int) + 64) = ((181 * r + 64 : Nat) : Int) from by omega, show bop32 108 ((181 * r + 64 : Nat) : Int) 128 = ((ocK r : Nat) : Int) from divNN (y := 128) (by omega) (by decide), mul32 (x := 8) (y := ((ocK r : Nat) : Int)) (by omega) (by omega)]
  generalize ocK r = K at hK hund ⊢
  obtain ⟨f, hf⟩ : ∃ f : Int, f = cond (tst 3 (8 * (u : Int) + a) (8 * (x : Int))) (cond (tst 5 (8 * (u : Int) + a) (8 * (to : Int))) 0 (8 * (u : Int) + a - 8 * (to : Int))) (8 * (x : Int) - (8 * (u : Int) + a)) := ⟨_, rfl⟩
  rw [← hf]
  have hf' : (f = 0 ∨ f = 8 * (x : Int) - (8 * (u : Int) + a) ∨ f = 8 * (u : Int) + a - 8 * (to : Int)) ∧ 0 ≤ f ∧ 8 * (x : Int) - (8 * (u : Int) + a) ≤ f ∧ 8 * (u : Int) + a - 8 * (to : Int) ≤ f := by
    rw [hf, tst3, tst5]
    by_cases c1 : 8 * (u : Int) + a < 8 * (x : Int)
    · rw [decide_eq_true c1]
      show (8 * (x : Int) - (8 * (u : Int) + a) = 0 ∨ _) ∧ _
      refine ⟨Or.inr (Or.inl rfl), ?_, ?_, ?_⟩ <;> (show _ ≤ 8 * (x : Int) - (8 * (u : Int) + a); omega)
    · rw [decide_eq_false c1]
      by_cases c2 : 8 * (to : Int) < 8 * (u : Int) + a
      · rw [decide_eq_true c2]
        refine ⟨Or.inr (Or.inr rfl), ?_, ?_, ?_⟩ <;> (show _ ≤ 8 * (u : Int) + a - 8 * (to : Int); omega)
      · rw [decide_eq_false c2]
        refine ⟨Or.inl rfl, ?_, ?_, ?_⟩ <;> (show _ ≤ (0 : Int); omega)
  clear hf
  have ef : cond (tst 3 f 0) f (uop 0 f) = f := by rw [tst3, decide_eq_false (by omega)]; rfl
  obtain ⟨g, hg⟩ : ∃ g : Int, g = cond (tst 3 (8 * (v : Int) + b - 8 * (y : Int)) 0) (8 * (v : Int) + b - 8 * (y : Int)) (uop 0 (8 * (v : Int) + b - 8 * (y : Int))) := ⟨_, rfl⟩
  have hg' : (g = 8 * (v : Int) + b - 8 * (y : Int) ∨ g = -(8 * (v : Int) + b - 8 * (y : Int))) ∧ 8 * (v : Int) + b - 8 * (y : Int) ≤ g ∧ -(8 * (v : Int) + b - 8 * (y : Int)) ≤ g := by
    rw [hg, tst3, neg32 (by omega) (by omega)]
    by_cases c1 : 8 * (v : Int) + b - 8 * (y : Int) < 0
    · rw [decide_eq_true c1]
      refine ⟨Or.inr rfl, ?_, ?_⟩ <;> (show _ ≤ -(8 * (v : Int) + b - 8 * (y : Int)); omega)
    · rw [decide_eq_false c1]
      refine ⟨Or.inl rfl, ?_, ?_⟩ <;> (show _ ≤ 8 * (v : Int) + b - 8 * (y : Int); omega)
  rw [ef, ← hg]
  clear hg ef
  rw [tst4, tst4, tst4, add32 (by omega) (by omega)]
  have tf : ((to - x : Nat) : Int) = (to : Int) - x := by omega
  rw [tf] at hund
  by_cases c1 : 8 * (r : Int) < f
  · rw [decide_eq_true c1, if_neg (fun z => by have := hund.mp z; omega)]; rfl
  by_cases c2 : 8 * (r : Int) < g
  · rw [decide_eq_false c1, decide_eq_true c2, if_neg (fun z => by have := hund.mp z; omega)]; rfl
  by_cases c3 : 8 * (K : Int) < f + g
  · rw [decide_eq_false c1, decide_eq_false c2, decide_eq_true c3, if_neg (fun z => by have := hund.mp z; omega)]; rfl
  · rw [decide_eq_false c1, decide_eq_false c2, decide_eq_false c3, if_pos (hund.mpr (by omega))]; rfl
theorem qu_side : ∀ t : Fin 24, ((rT t 0 : Nat) : Int) + (rT t 1 : Nat) < 8 ∧ sU (quT 2 t) + sV (quT 2 t) < 8 ∨ 8 < ((rT t 0 : Nat) : Int) + (rT t 1 : Nat) ∧ 8 < sU (quT 2 t) + sV (quT 2 t) := by decide +kernel
theorem qu_side2 : ∀ t : Fin 24, ((rT t 0 : Nat) : Int) < (rT t 1 : Nat) ∧ sU (quT 2 t) < sV (quT 2 t) ∨ ((rT t 1 : Nat) : Int) < (rT t 0 : Nat) ∧ sV (quT 2 t) < sU (quT 2 t) := by decide +kernel
/-- all sorts of a quarter are under the tool with its sample -/
theorem unM_q {x to y u v t : Nat} (ht : t < 24) : unM r x to y u v t = und r (8 * ((u : Int) - x) + sU (quT 2 t)) (8 * ((v : Int) - y) + sV (quT 2 t)) (to - x) := by
  have r0 : 1 ≤ rT t 0 ∧ rT t 0 < 8 := rT_lt ⟨t, ht⟩ 0
  have r1 : 1 ≤ rT t 1 ∧ rT t 1 < 8 := rT_lt ⟨t, ht⟩ 1
  have s0 := sU_b (q := quT 2 t)
  have s1 := sV_b (q := quT 2 t)
  have q1 := qu_side ⟨t, ht⟩
  have q2 := qu_side2 ⟨t, ht⟩
  simp only at q1 q2
  unfold unM und
  rw [decide_eq_decide]
  generalize sU (quT 2 t) = a at *
  generalize sV (quT 2 t) = b at *
  generalize rT t 0 = c at *
  generalize rT t 1 = e at *
  omega
end MSH
