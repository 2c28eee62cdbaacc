/-! L3: rings of quarters (desk) -/
noncomputable section RNG
variable {gv : Nat → Int} {B n d r : Nat} {h : AH} {Q : Nat → Nat → Nat → Bool} {cu cv : Int}
/-- what a disc has more than the next smaller one -/
def rnQ (r : Nat) (cu cv : Int) (q v u : Nat) : Bool := dsQ r cu cv q v u && !dsQ (r - 1) cu cv q v u
theorem rnQ_out {q v u : Nat} (h : (v : Int) < cv - r ∨ cv + r ≤ v ∨ (u : Int) < cu - r ∨ cu + r ≤ u) : rnQ r cu cv q v u = false := by
  unfold rnQ
  rw [dsQ_out h]
  rfl
set_option maxHeartbeats 1000000 in
theorem c_ring302 (l : LX B n h) (hd : 10 ≤ d) (hn : n ≤ 52) (hr : 1 ≤ r ∧ r ≤ 300) (hcu : -200 ≤ cu ∧ cu ≤ 200) (hcv : -200 ≤ cv ∧ cv ≤ 200) (qs : Qua n h (B + 114) Q) :
    Vd (cll PP (ev PP (gsF gv) B) d 302 [(2, rf (B + 92)), (0, cu), (0, cv), (0, (r : Int))] h) (fun h' => Agr (fun c _ => c = B + 114) h h' ∧ Qua n h' (B + 114) (fun q v u => Q q v u || rnQ r cu cv q v u)) := by
  have kb := qs.1
  refine Vd.inq (D := 9) hd (Nat.le_of_ble_eq_true rfl) rfl (fun d hd P K => ?_)
  obtain ⟨lv, elv⟩ : ∃ m, m = (cv - r).toNat := ⟨_, rfl⟩
  obtain ⟨lu, elu⟩ : ∃ m, m = (cu - r).toNat := ⟨_, rfl⟩
  have quas : ∀ (c p : Nat) (q : AH) (u5 u6 u7 u8 : AV), p + c = 4 → LX B n q → Agr (fun c _ => c = B + 114) h q → Qua n q (B + 114) (fun q v u => Q q v u || (aheadB p 0 0 q v u && rnQ r cu cv q v u)) → Ends (ev PP (gsF gv) B d 302 3 [(2, rf (B + 92)), (0, cu), (0, cv), (0, (r : Int)), (0, (p : Int)), u5, u6, u7, u8] [] q) P := by
    intro c
    induction c with
    | zero =>
      intro p q u5 u6 u7 u8 hp lq gq qq
      obtain rfl : p = 4 := by omega
      refine Ends.eq (b302_3 (n := n) (by (repeat' first | assumption | refine LX.setF _ _ ?_ (by decide +kernel) | refine LX.setS ?_ rfl | refine LX.setA ?_ (by first | assumption | omega))) (by first | assumption | omega)) ?_
      refine Ends.b3 (fun _ => Ends.sm (K _ ⟨gq, qq.congr (fun q y x hq hy hx => ?_)⟩)) (fun z => absurd z (by decide))
      unfold aheadB
      rw [decide_eq_true (Or.inl hq), Bool.true_and]
    | succ c ih =>
      intro p q u5 u6 u7 u8 hp lq gq qq
      have hp4 : p < 4 := by omega
      have su := sU_b (q := p)
      have sv := sV_b (q := p)
      have pn : p * n ≤ 156 := by
        have := Nat.mul_le_mul (show p ≤ 3 by omega) hn
        omega
      refine Ends.eq (b302_3 (n := n) (by (repeat' first | assumption | refine LX.setF _ _ ?_ (by decide +kernel) | refine LX.setS ?_ rfl | refine LX.setA ?_ (by first | assumption | omega))) (by first | assumption | omega)) ?_
      rw [max0I (by omega) (by omega), ← elv]
      refine Ends.b3 (fun z => by omega) (fun _ => ?_)
      have nxt : ∀ (q2 : AH) (x5 : Int) (u6 u7 u8 : AV), LX B n q2 → Agr (fun c _ => c = B + 114) h q2 → Qua n q2 (B + 114) (fun q v u => Q q v u || (aheadB (p + 1) 0 0 q v u && rnQ r cu cv q v u)) → Ends (ev PP (gsF gv) B d 302 155 [(2, rf (B + 92)), (0, cu), (0, cv), (0, (r : Int)), (0, (p : Int)), (0, x5), u6, u7, u8] [] q2) P := fun q2 x5 u6 u7 u8 l2 g2 qq2 => by
        refine Ends.eq (b302_155 (n := n) (by (repeat' first | assumption | refine LX.setF _ _ ?_ (by decide +kernel) | refine LX.setS ?_ rfl | refine LX.setA ?_ (by first | assumption | omega))) (by first | assumption | omega)) ?_
        rw [w_succ (by omega)]
        exact ih (p + 1) q2 _ _ _ _ (by omega) l2 g2 qq2
      have rws : ∀ (c2 v : Nat) (q2 : AH) (u6 u7 u8 : AV), v + c2 = n + 300 → lv ≤ v → LX B n q2 → Agr (fun c _ => c = B + 114) h q2 → Qua n q2 (B + 114) (fun q y x => Q q y x || (aheadB p v 0 q y x && rnQ r cu cv q y x)) → Ends (ev PP (gsF gv) B d 302 18 [(2, rf (B + 92)), (0, cu), (0, cv), (0, (r : Int)), (0, (p : Int)), (0, (v : Int)), u6, u7, u8] [] q2) P := by
        intro c2
        induction c2 with
        | zero =>
          intro v q2 u6 u7 u8 hv0 hv2 l2 g2 qq2
          refine Ends.eq (b302_18 (n := n) (by (repeat' first | assumption | refine LX.setF _ _ ?_ (by decide +kernel) | refine LX.setS ?_ rfl | refine LX.setA ?_ (by first | assumption | omega))) (by first | assumption | omega)) ?_
          refine Ends.b3 (fun _ => nxt q2 _ _ _ _ l2 g2 (qq2.congr (fun q y x hq hy hx => ?_))) (fun z => by omega)
          congr 2
          unfold aheadB
          rw [decide_eq_decide]
          omega
        | succ c2 ihv =>
          intro v q2 u6 u7 u8 hv0 hv2 l2 g2 qq2
          refine Ends.eq (b302_18 (n := n) (by (repeat' first | assumption | refine LX.setF _ _ ?_ (by decide +kernel) | refine LX.setS ?_ rfl | refine LX.setA ?_ (by first | assumption | omega))) (by first | assumption | omega)) ?_
          rw [add32 (by omega) (by omega)]
          refine Ends.b3 (fun z => nxt q2 _ _ _ _ l2 g2 (qq2.congr (fun q y x hq hy hx => ?_))) (fun z => Ends.b3 (fun z2 => nxt q2 _ _ _ _ l2 g2 (qq2.congr (fun q y x hq hy hx => ?_))) (fun z2 => ?_))
          · congr 2
            unfold aheadB
            rw [decide_eq_decide]
            omega
          · by_cases w : q = p ∧ v ≤ y
            · rw [rnQ_out (Or.inr (Or.inl (by omega)))]; simp
            · congr 2
              unfold aheadB
              rw [decide_eq_decide]
              omega
          rw [max0I (by omega) (by omega), ← elu]
          have cols : ∀ (c3 u : Nat) (q3 : AH) (u7 u8 : AV), u + c3 = n + 300 → lu ≤ u → LX B n q3 → Agr (fun c _ => c = B + 114) h q3 → Qua n q3 (B + 114) (fun q y x => Q q y x || (aheadB p v u q y x && rnQ r cu cv q y x)) → Ends (ev PP (gsF gv) B d 302 44 [(2, rf (B + 92)), (0, cu), (0, cv), (0, (r : Int)), (0, (p : Int)), (0, (v : Int)), (0, (u : Int)), u7, u8] [] q3) P := by
            intro c3
            have done : ∀ (q3 : AH) (u : Nat) (u7 u8 : AV), LX B n q3 → Agr (fun c _ => c = B + 114) h q3 → Qua n q3 (B + 114) (fun q y x => Q q y x || (aheadB p v u q y x && rnQ r cu cv q y x)) → ((n : Int) ≤ u ∨ cu + r ≤ (u : Int)) → Ends (ev PP (gsF gv) B d 302 149 [(2, rf (B + 92)), (0, cu), (0, cv), (0, (r : Int)), (0, (p : Int)), (0, (v : Int)), (0, (u : Int)), u7, u8] [] q3) P := fun q3 u u7 u8 l3 g3 qq3 hu => by
              refine Ends.eq (b302_149 (n := n) (by (repeat' first | assumption | refine LX.setF _ _ ?_ (by decide +kernel) | refine LX.setS ?_ rfl | refine LX.setA ?_ (by first | assumption | omega))) (by first | assumption | omega)) ?_
              rw [w_succ (by omega)]
              refine ihv (v + 1) q3 _ _ _ (by omega) (by omega) l3 g3 (qq3.congr (fun q y x hq hy hx => ?_))
              by_cases w : q = p ∧ y = v ∧ u ≤ x
              · rw [rnQ_out (Or.inr (Or.inr (Or.inr (by omega))))]; simp
              · congr 2
                unfold aheadB
                rw [decide_eq_decide]
                omega
            induction c3 with
            | zero =>
              intro u q3 u7 u8 hu hu2 l3 g3 qq3
              refine Ends.eq (b302_44 (n := n) (by (repeat' first | assumption | refine LX.setF _ _ ?_ (by decide +kernel) | refine LX.setS ?_ rfl | refine LX.setA ?_ (by first | assumption | omega))) (by first | assumption | omega)) ?_
              exact Ends.b3 (fun _ => done q3 u _ _ l3 g3 qq3 (Or.inl (by omega))) (fun z => by omega)
            | succ c3 ihu =>
              intro u q3 u7 u8 hu hu2 l3 g3 qq3
              refine Ends.eq (b302_44 (n := n) (by (repeat' first | assumption | refine LX.setF _ _ ?_ (by decide +kernel) | refine LX.setS ?_ rfl | refine LX.setA ?_ (by first | assumption | omega))) (by first | assumption | omega)) ?_
              rw [add32 (x := cu) (by omega) (by omega)]
              refine Ends.b3 (fun z => done q3 u _ _ l3 g3 qq3 (Or.inl (by omega))) (fun z1 => Ends.b3 (fun z => done q3 u _ _ l3 g3 qq3 (Or.inr (by omega))) (fun z2 => ?_))
              have hvn : v < n := by omega
              have hun : u < n := by omega
              have ql := q_lt (n := n) hp4 hvn
              rw [v434_is ⟨p, hp4⟩, v435_is ⟨p, hp4⟩]
              simp only
              rw [mul32 (x := 8) (y := (u : Int)) (by omega) (by omega), mul32 (x := 8) (y := (v : Int)) (by omega) (by omega), mul32 (x := 8) (y := cu) (by omega) (by omega), mul32 (x := 8) (y := cv) (by omega) (by omega), add32 (x := 8 * (u : Int)) (by omega) (by omega), add32 (x := 8 * (v : Int)) (by omega) (by omega), sub32 (x := 8 * (u : Int) + sU p) (by omega) (by omega), sub32 (x := 8 * (v : Int) + sV p) (by omega) (by omega), v410_is (by omega) (by omega) (by omega), show bop32 100 (r : Int) 1 = ((r - 1 : Nat) : Int) from subNN (y := 1) (by omega) (by omega), v410_is (by omega) (by omega) (by omega), show bop32 104 (p : Int) (n : Int) = ((p * n : Nat) : Int) from mulNN (by omega), addNN (by omega), tn, an1]
              have eu : und r (8 * (u : Int) + sU p - 8 * cu) (8 * (v : Int) + sV p - 8 * cv) 0 = dsQ r cu cv p v u := by
                unfold dsQ
                congr 1 <;> omega
              have eu2 : und (r - 1) (8 * (u : Int) + sU p - 8 * cu) (8 * (v : Int) + sV p - 8 * cv) 0 = dsQ (r - 1) cu cv p v u := by
                unfold dsQ
                congr 1 <;> omega
              have nu : ∀ (q4 : AH) (u7 u8 : AV), LX B n q4 → Agr (fun c _ => c = B + 114) h q4 → Qua n q4 (B + 114) (fun q y x => Q q y x || (aheadB p v (u + 1) q y x && rnQ r cu cv q y x)) → (∃ x7 x8 : Int, u7 = (0, x7) ∧ u8 = (0, x8)) → Ends (ev PP (gsF gv) B d 302 143 [(2, rf (B + 92)), (0, cu), (0, cv), (0, (r : Int)), (0, (p : Int)), (0, (v : Int)), (0, (u : Int)), u7, u8] [] q4) P := fun q4 u7 u8 l4 g4 qq4 ⟨x7, x8, e7, e8⟩ => by
                rw [e7, e8]
                refine Ends.eq (b302_143 (n := n) (by (repeat' first | assumption | refine LX.setF _ _ ?_ (by decide +kernel) | refine LX.setS ?_ rfl | refine LX.setA ?_ (by first | assumption | omega))) (by first | assumption | omega)) ?_
                rw [w_succ (by omega)]
                exact ihu (u + 1) q4 _ _ (by omega) (by omega) l4 g4 qq4
              have no : rnQ r cu cv p v u = false → ∀ u7 u8 : AV, (∃ x7 x8 : Int, u7 = (0, x7) ∧ u8 = (0, x8)) → Ends (ev PP (gsF gv) B d 302 143 [(2, rf (B + 92)), (0, cu), (0, cv), (0, (r : Int)), (0, (p : Int)), (0, (v : Int)), (0, (u : Int)), u7, u8] [] q3) P := fun w u7 u8 he => by
                refine nu q3 u7 u8 l3 g3 (qq3.congr (fun q y x hq hy hx => ?_)) he
                by_cases e : q = p ∧ y = v ∧ x = u
                · rw [e.1, e.2.1, e.2.2, w]; simp
                · congr 2
                  unfold aheadB
                  rw [decide_eq_decide]
                  omega
              rw [eu, eu2]
              by_cases w : dsQ r cu cv p v u = true
              · rw [if_pos w]
                refine Ends.b0 (fun z => absurd z (by decide)) (fun _ => ?_)
                by_cases w2 : dsQ (r - 1) cu cv p v u = true
                · rw [if_pos w2]
                  exact Ends.b1 (fun _ => no (by unfold rnQ; rw [w, w2]; rfl) _ _ ⟨_, _, rfl, rfl⟩) (fun z => absurd z (by decide))
                · rw [if_neg w2]
                  have wr : rnQ r cu cv p v u = true := by unfold rnQ; rw [w, Bool.eq_false_iff.mpr w2]; rfl
                  refine Ends.b1 (fun z => absurd rfl z) (fun _ => Ends.g ⟨by omega, by omega⟩ ?_)
                  refine nu _ _ _ (l3.setS rfl) (g3.set rfl) ((qq3.put hn hp4 hvn hun).congr (fun q y x hq hy hx => ?_)) ⟨_, _, rfl, rfl⟩
                  by_cases e : q = p ∧ y = v ∧ x = u
                  · rw [e.1, e.2.1, e.2.2, wr]
                    unfold aheadB
                    simp
                  · rw [decide_eq_false e, Bool.or_false]
                    congr 2
                    unfold aheadB
                    rw [decide_eq_decide]
                    omega
              · rw [if_neg w]
                exact Ends.b0 (fun _ => no (by unfold rnQ; rw [Bool.eq_false_iff.mpr w]; rfl) _ _ ⟨_, _, rfl, rfl⟩) (fun z => absurd rfl z)
          exact cols (n + 300 - lu) lu q2 _ _ (by omega) (Nat.le_refl _) l2 g2 (qq2.congr (fun q y x hq hy hx => by
            by_cases w : q = p ∧ y = v ∧ x < lu
            · rw [rnQ_out (Or.inr (Or.inr (Or.inl (by omega))))]; simp
            · congr 2
              unfold aheadB
              rw [decide_eq_decide]
              omega))
      exact rws (n + 300 - lv) lv q _ _ _ (by omega) (Nat.le_refl _) lq gq (qq.congr (fun q y x hq hy hx => by
        by_cases w : q = p ∧ y < lv
        · rw [rnQ_out (Or.inl (by omega))]; simp
        · congr 2
          unfold aheadB
          rw [decide_eq_decide]
          omega))
  refine Ends.eq (b302_0 (n := n) (by (repeat' first | assumption | refine LX.setF _ _ ?_ (by decide +kernel) | refine LX.setS ?_ rfl | refine LX.setA ?_ (by first | assumption | omega))) (by first | assumption | omega)) ?_
  exact quas 4 0 h _ _ _ _ rfl l Agr.rf (qs.congr (fun q y x hq hy hx => by
    have : aheadB 0 0 0 q y x = false := by
      unfold aheadB
      rw [decide_eq_false]
      omega
    rw [this]; simp))
end RNG
