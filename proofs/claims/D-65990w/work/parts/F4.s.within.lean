/-! L3: whether places are within lines (both sides) -/
noncomputable section WIT
variable {gv : Nat → Int} {B n d : Nat} {h : AH} {lv : Nat → Bool} {U0 V0 U1 V1 DU DV SZ : Nat → Int} {k m l f : Nat} {u v w x c : Int}
/-- a line is crossed, gone out from u, v (in c-ths) -/
def cxP (U0 V0 V1 DU DV : Nat → Int) (c u v : Int) (k : Nat) : Prop := ¬ (c * V0 k ≤ v ↔ c * V1 k ≤ v) ∧ u < c * U0 k + (v - c * V0 k) * DU k * DV k
def cxB (U0 V0 V1 DU DV : Nat → Int) (c u v : Int) (k : Nat) : Bool := @decide (cxP U0 V0 V1 DU DV c u v k) (Classical.propDecidable _)
theorem cxB_t : cxB U0 V0 V1 DU DV c u v k = true ↔ cxP U0 V0 V1 DU DV c u v k := by unfold cxB; exact @decide_eq_true_iff _ (Classical.propDecidable _)
theorem cxB_f (z : ¬ cxP U0 V0 V1 DU DV c u v k) : cxB U0 V0 V1 DU DV c u v k = false := by unfold cxB; exact @decide_eq_false _ (Classical.propDecidable _) z
/-- odd or even -/
def parI (N : Nat) : Int := ((N % 2 : Nat) : Int)
theorem par_tog {N : Nat} : (if parI N = 0 then (1 : Int) else 0) = parI (N + 1) := by
  unfold parI
  split <;> omega
theorem par_01 {N : Nat} : parI N = 0 ∨ parI N = 1 := by unfold parI; omega
theorem mul_t {t d : Int} (hd : d = -1 ∨ d = 0 ∨ d = 1) (ht : -10000 ≤ t ∧ t ≤ 10000) : bop32 104 t d = t * d ∧ -10000 ≤ t * d ∧ t * d ≤ 10000 := by
  have b : -10000 ≤ t * d ∧ t * d ≤ 10000 := by rcases hd with rfl | rfl | rfl <;> omega
  exact ⟨mul32 (by omega) (by omega), b⟩
/-- the lines counted: those there, of that loop, crossed -/
def wiD (lv : Nat → Bool) (LA U0 V0 V1 DU DV : Nat → Int) (u v w : Int) (k : Nat) : Bool := lv k && (decide (w < 0) || decide (LA k = w)) && cxB U0 V0 V1 DU DV 8 u v k
theorem c_isWithin416 (l : LX B n h) (hd : 10 ≤ d) (Sg : SgD B h lv U0 V0 U1 V1) (b : BdL lv U0 V0 U1 V1) (hl : ∀ k, lv k = true → (hv h (B + 73) k = DU k ∧ hv h (B + 74) k = DV k) ∧ D8 (DU k) (DV k)) (hu : -1000 ≤ u ∧ u ≤ 1000) (hv0 : -1000 ≤ v ∧ v ≤ 1000) : Vt 0 (cll PP (ev PP (gsF gv) B) d 416 [(2, rf (B + 56)), (0, u), (0, v), (0, w)] h) (fun x h' => h' = h ∧ x = parI (cntN (wiD lv (fun k => hv h (B + 76) k) U0 V0 V1 DU DV u v w) 24)) := by
  refine Vt.inq (D := 9) hd (Nat.le_of_ble_eq_true rfl) rfl (fun d hd Q K => ?_)
  obtain ⟨P, eP⟩ : ∃ P, P = wiD lv (fun k => hv h (B + 76) k) U0 V0 V1 DU DV u v w := ⟨_, rfl⟩
  have key : ∀ (r k : Nat) (u6 : AV), k + r = 24 → Ends (ev PP (gsF gv) B d 416 6 [(2, rf (B + 56)), (0, u), (0, v), (0, w), (0, parI (cntN P k)), (0, (k : Int)), u6] [] h) Q := by
    intro r
    induction r with
    | zero =>
      intro k u6 ek
      obtain rfl : k = 24 := by omega
      refine Ends.eq (b416_6 (n := n) (by (repeat' first | assumption | refine LX.setF _ _ ?_ (by decide +kernel) | refine LX.setS ?_ rfl | refine LX.setA ?_ (by first | assumption | omega))) (by first | assumption | omega)) ?_
      exact Ends.b3 (fun _ => Ends.g par_01 (Ends.sm (K _ _ ⟨rfl, by rw [eP]⟩))) (fun z => absurd z (by decide))
    | succ r ih =>
      intro k u6 ek
      have pk : P k = (lv k && (decide (w < 0) || decide (hv h (B + 76) k = w)) && cxB U0 V0 V1 DU DV 8 u v k) := by rw [eP]; rfl
      have skip : P k = false → ∀ u6 : AV, Ends (ev PP (gsF gv) B d 416 144 [(2, rf (B + 56)), (0, u), (0, v), (0, w), (0, parI (cntN P k)), (0, (k : Int)), u6] [] h) Q := fun z u6 => by
        refine Ends.eq (b416_144 (n := n) (by (repeat' first | assumption | refine LX.setF _ _ ?_ (by decide +kernel) | refine LX.setS ?_ rfl | refine LX.setA ?_ (by first | assumption | omega))) (by first | assumption | omega)) ?_
        rw [w_succ (by omega), show cntN P k = cntN P (k + 1) from by rw [cntN_s, z]; rfl]
        exact ih (k + 1) _ (by omega)
      have take : P k = true → ∀ u6 : AV, Ends (ev PP (gsF gv) B d 416 144 [(2, rf (B + 56)), (0, u), (0, v), (0, w), (0, parI (cntN P k + 1)), (0, (k : Int)), u6] [] h) Q := fun z u6 => by
        refine Ends.eq (b416_144 (n := n) (by (repeat' first | assumption | refine LX.setF _ _ ?_ (by decide +kernel) | refine LX.setS ?_ rfl | refine LX.setA ?_ (by first | assumption | omega))) (by first | assumption | omega)) ?_
        rw [w_succ (by omega), show cntN P k + 1 = cntN P (k + 1) from by rw [cntN_s, z]; rfl]
        exact ih (k + 1) _ (by omega)
      obtain ⟨t1, t2⟩ := Sg k (by omega)
      refine Ends.eq (b416_6 (n := n) (by (repeat' first | assumption | refine LX.setF _ _ ?_ (by decide +kernel) | refine LX.setS ?_ rfl | refine LX.setA ?_ (by first | assumption | omega))) (by first | assumption | omega)) ?_
      rw [tn, t1]
      refine Ends.b3 (fun z => absurd z (by omega)) (fun _ => Ends.g ⟨by omega, by omega⟩ ?_)
      cases lk : lv k
      · exact Ends.b0 (fun _ => skip (by rw [pk, lk]; rfl) _) (fun z => absurd rfl z)
      · obtain ⟨y1, y2, y3, y4⟩ := t2 lk
        obtain ⟨⟨d1, d2⟩, D⟩ := hl k lk
        have bk := b k lk
        unfold in64 at bk
        have cross : (w < 0 ∨ hv h (B + 76) k = w) → ∀ u6 : AV, Ends (ev PP (gsF gv) B d 416 41 [(2, rf (B + 56)), (0, u), (0, v), (0, w), (0, parI (cntN P k)), (0, (k : Int)), u6] [] h) Q := fun hw u6 => by
          have pk2 : P k = cxB U0 V0 V1 DU DV 8 u v k := by
            rw [pk, lk]
            rcases hw with z | z
            · rw [decide_eq_true z]; rfl
            · rw [decide_eq_true (p := hv h (B + 76) k = w) z, Bool.or_true]; rfl
          have e1 : bop32 104 8 (V0 k) = 8 * V0 k := mul32 (by omega) (by omega)
          have e2 : bop32 104 8 (V1 k) = 8 * V1 k := mul32 (by omega) (by omega)
          have e3 : bop32 104 8 (U0 k) = 8 * U0 k := mul32 (by omega) (by omega)
          have e4 : bop32 100 v (8 * V0 k) = v - 8 * V0 k := sub32 (by omega) (by omega)
          obtain ⟨e5, b5⟩ := mul_t (t := v - 8 * V0 k) D.1 (by omega)
          obtain ⟨e6, b6⟩ := mul_t (t := (v - 8 * V0 k) * DU k) D.2.1 (by omega)
          have e7 : bop32 96 (8 * U0 k) ((v - 8 * V0 k) * DU k * DV k) = 8 * U0 k + (v - 8 * V0 k) * DU k * DV k := add32 (by omega) (by omega)
          refine Ends.eq (b416_41 (n := n) (by (repeat' first | assumption | refine LX.setF _ _ ?_ (by decide +kernel) | refine LX.setS ?_ rfl | refine LX.setA ?_ (by first | assumption | omega))) (by first | assumption | omega)) ?_
          simp only [tn]
          rw [y1, y2, y4, d1, d2, e1, e2, e3, e4, e5, e6, e7, ct4, ct4, ct5, ct1, par_tog]
          clear e1 e2 e3 e4 e5 e6 e7
          refine Ends.g ⟨by omega, by omega⟩ (Ends.b1 (fun z => ?_) (fun z => skip (by
            rw [pk2]
            refine cxB_f (fun y => y.1 ?_)
            clear b5 b6
            by_cases c1 : v < 8 * V0 k <;> by_cases c2 : v < 8 * V1 k
            · omega
            · rw [if_pos c1, if_neg c2] at z; exact absurd z (by decide)
            · rw [if_neg c1, if_pos c2] at z; exact absurd z (by decide)
            · omega) _))
          have nz : ¬ (8 * V0 k ≤ v ↔ 8 * V1 k ≤ v) := fun y => z (by
            by_cases c1 : v < 8 * V0 k
            · rw [if_pos c1, if_pos (by omega)]
            · rw [if_neg c1, if_neg (by omega)])
          by_cases c3 : u < 8 * U0 k + (v - 8 * V0 k) * DU k * DV k
          · rw [if_pos c3]
            exact take (by rw [pk2]; exact cxB_t.mpr ⟨nz, c3⟩) _
          · rw [if_neg c3]
            exact skip (by rw [pk2]; exact cxB_f (fun y => c3 y.2)) _
        refine Ends.b0 (fun z => absurd z (by decide)) (fun _ => Ends.b2 (fun z => cross (Or.inl z) _) (fun z => Ends.b0 (fun z2 => cross (Or.inr z2) _) (fun z2 => skip (by
          rw [pk, decide_eq_false (show ¬ w < 0 by omega), decide_eq_false z2, lk]; rfl) _)))
  refine Ends.eq (b416_0 (n := n) (by (repeat' first | assumption | refine LX.setF _ _ ?_ (by decide +kernel) | refine LX.setS ?_ rfl | refine LX.setA ?_ (by first | assumption | omega))) (by first | assumption | omega)) ?_
  exact key 24 0 _ rfl
/-- a line's slope -/
theorem slope_is (n64 : n ≤ 64) (G : SgK n U0 V0 U1 V1 DU DV SZ k) (z : V0 k ≠ V1 k) : bop32 108 (bop32 100 (U1 k) (U0 k)) (bop32 100 (V1 k) (V0 k)) = DU k * DV k := by
  obtain ⟨⟨D, s1⟩, ⟨e1, e2⟩, bu, bv, bu1, bv1, s2⟩ := G
  rw [sub32 (x := U1 k) (by omega) (by omega), sub32 (x := V1 k) (by omega) (by omega), show U1 k - U0 k = SZ k * DU k by omega, show V1 k - V0 k = SZ k * DV k by omega]
  show w32 ((SZ k * DU k).tdiv (SZ k * DV k)) = DU k * DV k
  obtain ⟨h1, h2, -⟩ := D
  have s0 : SZ k ≠ 0 := by omega
  rcases h2 with h2 | h2 | h2
  · rw [h2, show SZ k * -1 = -SZ k by omega, Int.tdiv_neg, Int.mul_tdiv_cancel_left _ s0]
    rcases h1 with h1 | h1 | h1 <;> rw [h1] <;> rfl
  · rw [h2] at e2; omega
  · rw [h2, Int.mul_one, Int.mul_tdiv_cancel_left _ s0]
    rcases h1 with h1 | h1 | h1 <;> rw [h1] <;> rfl
/-- the model's way to ask whether a line is crossed -/
theorem ln_cr (hc : c = 2 ∨ c = 8) (hm : v % c ≠ 0) : (V0 k = V1 k → ¬ cxP U0 V0 V1 DU DV c u v k) ∧ (v < c * min (V0 k) (V1 k) → ¬ cxP U0 V0 V1 DU DV c u v k) ∧ (¬ v ≤ c * max (V0 k) (V1 k) → ¬ cxP U0 V0 V1 DU DV c u v k) ∧ (V0 k ≠ V1 k → ¬ v < c * min (V0 k) (V1 k) → v ≤ c * max (V0 k) (V1 k) → (cxP U0 V0 V1 DU DV c u v k ↔ u < c * U0 k + DU k * DV k * (v - c * V0 k))) := by
  have com : (v - c * V0 k) * DU k * DV k = DU k * DV k * (v - c * V0 k) := by rw [Int.mul_assoc, Int.mul_comm]
  unfold cxP
  rw [com]
  generalize DU k * DV k * (v - c * V0 k) = t
  clear com
  refine ⟨fun z y => y.1 (by rw [z]), fun z y => y.1 ?_, fun z y => y.1 ?_, fun z1 z2 z3 => ⟨fun y => y.2, fun y => ⟨?_, y⟩⟩⟩
  · rcases hc with rfl | rfl <;> omega
  · rcases hc with rfl | rfl <;> omega
  · rcases hc with rfl | rfl <;> omega
/-- crossed lines of the model, told one by one -/
theorem cnt_ml {P F : Nat → Bool} {N : Nat} (e : ∀ k, lv k = true → P (cntN lv k) = F k) (no : ∀ k, lv k = false → F k = false) : cntN P (cntN lv N) = cntN F N := by
  rw [cnt_sum P, cnt_sum F, sum_live (f := fun k => if F k = true then 1 else 0) N (fun k hk lk => by rw [e k lk])]
  refine sumN_congr N (fun k _ => ?_)
  by_cases z : lv k = true
  · rw [if_pos z]
  · rw [if_neg z, no k (Bool.eq_false_iff.mpr z)]; rfl
/-- one that is hit stands on the line -/
theorem hit_no {p : Int} (G : SgK n U0 V0 U1 V1 DU DV SZ k) (lf : lv f = true) (lk : lv k = true) (hp : 0 ≤ p ∧ p ≤ SZ k) (eu : U0 f = U0 k + p * DU k) (ev_ : V0 f = V0 k + p * DV k) (s1 : 0 ≤ SZ f) (na : ¬ AdjL lv U0 V0 U1 V1 f k) : MtSk U0 V0 DU DV SZ f k := by
  obtain ⟨-, ⟨e1, e2⟩, -⟩ := G
  refine ⟨0, 2 * p, ⟨Int.le_refl 0, by omega⟩, ⟨by omega, by omega⟩, ⟨by rw [eu]; grind, by rw [ev_]; grind⟩, fun z => na ⟨lf, lk, U0 f, V0 f, Or.inl ⟨rfl, rfl⟩, ?_⟩⟩
  rcases z.2 with y | y
  · have : p = 0 := by omega
    exact Or.inl ⟨by rw [eu, this]; omega, by rw [ev_, this]; omega⟩
  · have : p = SZ k := by omega
    exact Or.inr ⟨by rw [eu, this, e1], by rw [ev_, this, e2]⟩
/-- from the start of a line of another loop on both sides see the same lines crossed -/
theorem cr_same (n64 : n ≤ 64) (G : SgK n U0 V0 U1 V1 DU DV SZ k) (lf : lv f = true) (lk : lv k = true) (s1 : 0 ≤ SZ f) (na : ¬ AdjL lv U0 V0 U1 V1 f k) (nm : ¬ MtSk U0 V0 DU DV SZ f k) : cxP U0 V0 V1 DU DV 8 (8 * U0 f) (8 * V0 f) k ↔ cxP U0 V0 V1 DU DV 2 (2 * U0 f) (2 * V0 f + 1) k := by
  have nh : ∀ p, 0 ≤ p → p ≤ SZ k → ¬ (U0 f = U0 k + p * DU k ∧ V0 f = V0 k + p * DV k) := fun p h1 h2 z => nm (hit_no G lf lk ⟨h1, h2⟩ z.1 z.2 s1 na)
  obtain ⟨⟨⟨h1, h2, h3⟩, hs⟩, ⟨e1, e2⟩, -⟩ := G
  have n1 := nh (V0 f - V0 k)
  have n2 := nh (V0 k - V0 f)
  unfold cxP
  clear nh nm na
  rcases h1 with h1 | h1 | h1 <;> rcases h2 with h2 | h2 | h2 <;> rw [h1, h2] at n1 n2 <;> rw [h1, h2] <;> rw [h2] at e2 <;> omega
end WIT
