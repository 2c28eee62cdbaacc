/-! L3: discs -/
section DSC
variable {gv : Nat → Int} {B n d r b : Nat} {h : AH} {Q : Nat → Nat → Nat → Bool} {cu cv : Int}
theorem und0 {x y : Int} : und r x y 0 = true ↔ (-x ≤ 8 * (r : Int) ∧ x ≤ 8 * (r : Int) ∧ y ≤ 8 * (r : Int) ∧ -y ≤ 8 * (r : Int)) ∧ y ≤ 8 * (ocK r : Int) ∧ -y ≤ 8 * (ocK r : Int) ∧ y - x ≤ 8 * (ocK r : Int) ∧ -y - x ≤ 8 * (ocK r : Int) ∧ x + y ≤ 8 * (ocK r : Int) ∧ x - y ≤ 8 * (ocK r : Int) := by
  unfold und
  rw [decide_eq_true_eq]
  generalize ocK r = K
  omega
theorem disc_core {x y a c : Int} (hr : r ≤ 1000) (ha : (a = x ∨ a = -x) ∧ x ≤ a ∧ -x ≤ a) (hc : (c = y ∨ c = -y) ∧ y ≤ c ∧ -y ≤ c) (hx : -20000 ≤ x ∧ x ≤ 20000) (hy : -20000 ≤ y ∧ y ≤ 20000) : cond (tst 4 a (bop32 104 8 (r : Int))) (0 : Int) (cond (tst 4 c (bop32 104 8 (r : Int))) 0 (cond (tst 4 (bop32 96 a c) (bop32 104 8 (bop32 108 (bop32 96 (bop32 104 181 (r : Int)) 64) 128))) 0 1)) = if und r x y 0 = true then 1 else 0 := by
  have hund := und0 (r := r) (x := x) (y := y)
  have hK : ocK r ≤ 1500 := by unfold ocK; omega
  rw [mul32 (x := 8) (y := (r : Int)) (by omega) (by omega), mul32 (x := 181) (by omega) (by omega), add32 (y := 64) (by omega) (by omega), show (181 * (r : Int) + 64) = ((181 * r + 64 : Nat) : Int) from by omega, show bop32 108 ((181 * r + 64 : Nat) : Int) 128 = ((ocK r : Nat) : Int) from divNN (y := 128) (by omega) (by decide), mul32 (x := 8) (y := ((ocK r : Nat) : Int)) (by omega) (by omega), add32 (x := a) (by omega) (by omega)]
  have hK2 : r ≤ ocK r ∨ 0 ≤ ocK r := Or.inr (Nat.zero_le _)
  generalize ocK r = K at hK hund ⊢
  rw [ct4, ct4, ct4]
  by_cases c1 : 8 * (r : Int) < a
  · rw [if_pos c1, if_neg (fun z => by have := hund.mp z; omega)]
  by_cases c2 : 8 * (r : Int) < c
  · rw [if_neg c1, if_pos c2, if_neg (fun z => by have := hund.mp z; omega)]
  by_cases c3 : 8 * (K : Int) < a + c
  · rw [if_neg c1, if_neg c2, if_pos c3, if_neg (fun z => by have := hund.mp z; omega)]
  · rw [if_neg c1, if_neg c2, if_neg c3, if_pos (hund.mpr (by omega))]
theorem v410_is {x y : Int} (hr : r ≤ 1000) (hx : -20000 ≤ x ∧ x ≤ 20000) (hy : -20000 ≤ y ∧ y ≤ 20000) : v410 x y (r : Int) = if und r x y 0 = true then 1 else 0 := by
  unfold v410
  rw [v886_is (by omega) (by omega), v886_is (by omega) (by omega)]
  exact disc_core hr (by split <;> omega) (by split <;> omega) hx hy
theorem v695_is {x y : Int} (hr : r ≤ 1000) (hx : -20000 ≤ x ∧ x ≤ 20000) (hy : -20000 ≤ y ∧ y ≤ 20000) : v695 x y (r : Int) = if und r x y 0 = true then 1 else 0 := by
  unfold v695
  have e : ∀ z : Int, -20000 ≤ z → z ≤ 20000 → cond (tst 3 z 0) z (uop 0 z) = if z < 0 then -z else z := fun z h1 h2 => by
    rw [ct3, neg32 (by omega) (by omega)]
  rw [e x hx.1 hx.2, e y hy.1 hy.2]
  exact disc_core hr (by split <;> omega) (by split <;> omega) hx hy
/-- is a quarter in a disc about a place -/
def dsQ (r : Nat) (cu cv : Int) (q v u : Nat) : Bool := und r (8 * ((u : Int) - cu) + sU q) (8 * ((v : Int) - cv) + sV q) 0
theorem dsQ_out {q v u : Nat} (h : (v : Int) < cv - r ∨ cv + r ≤ v ∨ (u : Int) < cu - r ∨ cu + r ≤ u) : dsQ r cu cv q v u = false := by
  have su := sU_b (q := q)
  have sv := sV_b (q := q)
  unfold dsQ und
  rw [decide_eq_false]
  omega
theorem max0I {a b : Int} (h1 : -1000 ≤ a ∧ a ≤ 1000) (h2 : -1000 ≤ b ∧ b ≤ 1000) : v891 0 (bop32 100 a b) = (((a - b).toNat : Nat) : Int) := by
  rw [sub32 (by omega) (by omega)]
  unfold v891
  rw [ct2]
  by_cases z : (0 : Int) < a - b
  · rw [if_pos z]; omega
  · rw [if_neg z]; omega
theorem c_disc397 (l : LX B n h) (hd : 10 ≤ d) (hn : n ≤ 52) (hr : r ≤ 64) (hcu : -200 ≤ cu ∧ cu ≤ 200) (hcv : -200 ≤ cv ∧ cv ≤ 200) (qs : Qua n h b Q) (hb : B ≤ b) :
    Vd (cll PP (ev PP (gsF gv) B) d 397 [(2, rf (B + 56)), (2, rf b), (0, cu), (0, cv), (0, (r : Int))] h) (fun h' => Agr (fun c _ => c = b) h h' ∧ Qua n h' b (fun q v u => Q q v u || dsQ r cu cv q v u)) := by
  have kb := qs.1
  refine Vd.inq (D := 9) hd (Nat.le_of_ble_eq_true rfl) rfl (fun d hd P K => ?_)
  obtain ⟨lv, elv⟩ : ∃ m, m = (cv - r).toNat := ⟨_, rfl⟩
  obtain ⟨lu, elu⟩ : ∃ m, m = (cu - r).toNat := ⟨_, rfl⟩
  have quas : ∀ (c p : Nat) (q : AH) (u6 u7 : AV), p + c = 4 → LX B n q → Agr (fun c _ => c = b) h q → Qua n q b (fun q v u => Q q v u || (aheadB p 0 0 q v u && dsQ r cu cv q v u)) → Ends (ev PP (gsF gv) B d 397 3 [(2, rf (B + 56)), (2, rf b), (0, cu), (0, cv), (0, (r : Int)), (0, (p : Int)), u6, u7] [] q) P := by
    intro c
    induction c with
    | zero =>
      intro p q u6 u7 hp lq gq qq
      obtain rfl : p = 4 := by omega
      refine Ends.eq (b397_3 (n := n) (by (repeat' first | assumption | refine LX.setF _ _ ?_ (by decide +kernel) | refine LX.setS ?_ rfl | refine LX.setA ?_ (by first | assumption | omega))) (by first | assumption | omega)) ?_
      refine Ends.b3 (fun _ => Ends.sm (K _ ⟨gq, qq.congr (fun q y x hq hy hx => ?_)⟩)) (fun z => absurd z (by decide))
      unfold aheadB
      rw [decide_eq_true (Or.inl hq), Bool.true_and]
    | succ c ih =>
      intro p q u6 u7 hp lq gq qq
      have hp4 : p < 4 := by omega
      have su := sU_b (q := p)
      have sv := sV_b (q := p)
      have pn : p * n ≤ 156 := by
        have := Nat.mul_le_mul (show p ≤ 3 by omega) hn
        omega
      refine Ends.eq (b397_3 (n := n) (by (repeat' first | assumption | refine LX.setF _ _ ?_ (by decide +kernel) | refine LX.setS ?_ rfl | refine LX.setA ?_ (by first | assumption | omega))) (by first | assumption | omega)) ?_
      rw [max0I (by omega) (by omega), ← elv]
      refine Ends.b3 (fun z => by omega) (fun _ => ?_)
      have nxt : ∀ (q2 : AH) (x6 : Int) (u7 : AV), LX B n q2 → Agr (fun c _ => c = b) h q2 → Qua n q2 b (fun q v u => Q q v u || (aheadB (p + 1) 0 0 q v u && dsQ r cu cv q v u)) → Ends (ev PP (gsF gv) B d 397 136 [(2, rf (B + 56)), (2, rf b), (0, cu), (0, cv), (0, (r : Int)), (0, (p : Int)), (0, x6), u7] [] q2) P := fun q2 x6 u7 l2 g2 qq2 => by
        refine Ends.eq (b397_136 (n := n) (by (repeat' first | assumption | refine LX.setF _ _ ?_ (by decide +kernel) | refine LX.setS ?_ rfl | refine LX.setA ?_ (by first | assumption | omega))) (by first | assumption | omega)) ?_
        rw [w_succ (by omega)]
        exact ih (p + 1) q2 _ _ (by omega) l2 g2 qq2
      have rws : ∀ (c2 v : Nat) (q2 : AH) (u7 : AV), v + c2 = n + 300 → lv ≤ v → LX B n q2 → Agr (fun c _ => c = b) h q2 → Qua n q2 b (fun q y x => Q q y x || (aheadB p v 0 q y x && dsQ r cu cv q y x)) → Ends (ev PP (gsF gv) B d 397 19 [(2, rf (B + 56)), (2, rf b), (0, cu), (0, cv), (0, (r : Int)), (0, (p : Int)), (0, (v : Int)), u7] [] q2) P := by
        intro c2
        induction c2 with
        | zero =>
          intro v q2 u7 hv0 hv2 l2 g2 qq2
          refine Ends.eq (b397_19 (n := n) (by (repeat' first | assumption | refine LX.setF _ _ ?_ (by decide +kernel) | refine LX.setS ?_ rfl | refine LX.setA ?_ (by first | assumption | omega))) (by first | assumption | omega)) ?_
          refine Ends.b3 (fun _ => nxt q2 _ _ l2 g2 (qq2.congr (fun q y x hq hy hx => ?_))) (fun z => by omega)
          congr 2
          unfold aheadB
          rw [decide_eq_decide]
          omega
        | succ c2 ihv =>
          intro v q2 u7 hv0 hv2 l2 g2 qq2
          refine Ends.eq (b397_19 (n := n) (by (repeat' first | assumption | refine LX.setF _ _ ?_ (by decide +kernel) | refine LX.setS ?_ rfl | refine LX.setA ?_ (by first | assumption | omega))) (by first | assumption | omega)) ?_
          rw [add32 (by omega) (by omega)]
          refine Ends.b3 (fun z => nxt q2 _ _ l2 g2 (qq2.congr (fun q y x hq hy hx => ?_))) (fun z => Ends.b3 (fun z2 => nxt q2 _ _ l2 g2 (qq2.congr (fun q y x hq hy hx => ?_))) (fun z2 => ?_))
          · congr 2
            unfold aheadB
            rw [decide_eq_decide]
            omega
          · by_cases w : q = p ∧ v ≤ y
            · rw [dsQ_out (Or.inr (Or.inl (by omega)))]; simp
            · congr 2
              unfold aheadB
              rw [decide_eq_decide]
              omega
          rw [max0I (by omega) (by omega), ← elu]
          have cols : ∀ (c3 u : Nat) (q3 : AH), u + c3 = n + 300 → lu ≤ u → LX B n q3 → Agr (fun c _ => c = b) h q3 → Qua n q3 b (fun q y x => Q q y x || (aheadB p v u q y x && dsQ r cu cv q y x)) → Ends (ev PP (gsF gv) B d 397 47 [(2, rf (B + 56)), (2, rf b), (0, cu), (0, cv), (0, (r : Int)), (0, (p : Int)), (0, (v : Int)), (0, (u : Int))] [] q3) P := by
            intro c3
            have done : ∀ (q3 : AH) (u : Nat), LX B n q3 → Agr (fun c _ => c = b) h q3 → Qua n q3 b (fun q y x => Q q y x || (aheadB p v u q y x && dsQ r cu cv q y x)) → ((n : Int) ≤ u ∨ cu + r ≤ (u : Int)) → Ends (ev PP (gsF gv) B d 397 130 [(2, rf (B + 56)), (2, rf b), (0, cu), (0, cv), (0, (r : Int)), (0, (p : Int)), (0, (v : Int)), (0, (u : Int))] [] q3) P := fun q3 u l3 g3 qq3 hu => by
              refine Ends.eq (b397_130 (n := n) (by (repeat' first | assumption | refine LX.setF _ _ ?_ (by decide +kernel) | refine LX.setS ?_ rfl | refine LX.setA ?_ (by first | assumption | omega))) (by first | assumption | omega)) ?_
              rw [w_succ (by omega)]
              refine ihv (v + 1) q3 _ (by omega) (by omega) l3 g3 (qq3.congr (fun q y x hq hy hx => ?_))
              by_cases w : q = p ∧ y = v ∧ u ≤ x
              · rw [dsQ_out (Or.inr (Or.inr (Or.inr (by omega))))]; simp
              · congr 2
                unfold aheadB
                rw [decide_eq_decide]
                omega
            induction c3 with
            | zero =>
              intro u q3 hu hu2 l3 g3 qq3
              refine Ends.eq (b397_47 (n := n) (by (repeat' first | assumption | refine LX.setF _ _ ?_ (by decide +kernel) | refine LX.setS ?_ rfl | refine LX.setA ?_ (by first | assumption | omega))) (by first | assumption | omega)) ?_
              exact Ends.b3 (fun _ => done q3 u l3 g3 qq3 (Or.inl (by omega))) (fun z => by omega)
            | succ c3 ihu =>
              intro u q3 hu hu2 l3 g3 qq3
              refine Ends.eq (b397_47 (n := n) (by (repeat' first | assumption | refine LX.setF _ _ ?_ (by decide +kernel) | refine LX.setS ?_ rfl | refine LX.setA ?_ (by first | assumption | omega))) (by first | assumption | omega)) ?_
              rw [add32 (x := cu) (by omega) (by omega)]
              refine Ends.b3 (fun z => done q3 u l3 g3 qq3 (Or.inl (by omega))) (fun z1 => Ends.b3 (fun z => done q3 u l3 g3 qq3 (Or.inr (by omega))) (fun z2 => ?_))
              have hvn : v < n := by omega
              have hun : u < n := by omega
              have ql := q_lt (n := n) hp4 hvn
              have k3 : hk q3 b = (3, 4 * n) := by rw [g3.hk]; exact kb
              rw [v434_is ⟨p, hp4⟩, v435_is ⟨p, hp4⟩]
              simp only
              rw [mul32 (x := 8) (y := (u : Int)) (by omega) (by omega), mul32 (x := 8) (y := (v : Int)) (by omega) (by omega), mul32 (x := 8) (y := cu) (by omega) (by omega), mul32 (x := 8) (y := cv) (by omega) (by omega), add32 (x := 8 * (u : Int)) (by omega) (by omega), add32 (x := 8 * (v : Int)) (by omega) (by omega), sub32 (x := 8 * (u : Int) + sU p) (by omega) (by omega), sub32 (x := 8 * (v : Int) + sV p) (by omega) (by omega), v410_is (by omega) (by omega) (by omega), show bop32 104 (p : Int) (n : Int) = ((p * n : Nat) : Int) from mulNN (by omega), addNN (by omega), tn, an1, ad_rf, k3]
              have eu : und r (8 * (u : Int) + sU p - 8 * cu) (8 * (v : Int) + sV p - 8 * cv) 0 = dsQ r cu cv p v u := by
                unfold dsQ
                congr 1 <;> omega
              have nu : ∀ (q4 : AH), LX B n q4 → Agr (fun c _ => c = b) h q4 → Qua n q4 b (fun q y x => Q q y x || (aheadB p v (u + 1) q y x && dsQ r cu cv q y x)) → Ends (ev PP (gsF gv) B d 397 124 [(2, rf (B + 56)), (2, rf b), (0, cu), (0, cv), (0, (r : Int)), (0, (p : Int)), (0, (v : Int)), (0, (u : Int))] [] q4) P := fun q4 l4 g4 qq4 => by
                refine Ends.eq (b397_124 (n := n) (by (repeat' first | assumption | refine LX.setF _ _ ?_ (by decide +kernel) | refine LX.setS ?_ rfl | refine LX.setA ?_ (by first | assumption | omega))) (by first | assumption | omega)) ?_
                rw [w_succ (by omega)]
                exact ihu (u + 1) q4 (by omega) (by omega) l4 g4 qq4
              rw [eu]
              by_cases w : dsQ r cu cv p v u = true
              · rw [if_pos w]
                refine Ends.b0 (fun z => absurd z (by decide)) (fun _ => Ends.g ⟨rf_pos _, rfl, by omega, by show ((p * n + v : Nat) : Int) < ((4 * n : Nat) : Int); omega⟩ (Ends.g ⟨rf_pos _, rfl, by omega, by show ((p * n + v : Nat) : Int) < ((4 * n : Nat) : Int); omega, by omega⟩ ?_))
                refine nu _ (lxA l3 k3) (g3.set rfl) ((qq3.put hn hp4 hvn hun).congr (fun q y x hq hy hx => ?_))
                by_cases e : q = p ∧ y = v ∧ x = u
                · rw [e.1, e.2.1, e.2.2, w]
                  unfold aheadB
                  simp
                · rw [decide_eq_false e, Bool.or_false]
                  congr 2
                  unfold aheadB
                  rw [decide_eq_decide]
                  omega
              · rw [if_neg w]
                refine Ends.b0 (fun _ => nu q3 l3 g3 (qq3.congr (fun q y x hq hy hx => ?_))) (fun z => absurd rfl z)
                by_cases e : q = p ∧ y = v ∧ x = u
                · rw [e.1, e.2.1, e.2.2, Bool.eq_false_iff.mpr w]; simp
                · congr 2
                  unfold aheadB
                  rw [decide_eq_decide]
                  omega
          refine cols (n + 300 - lu) lu q2 (by omega) (Nat.le_refl _) l2 g2 (qq2.congr (fun q y x hq hy hx => ?_))
          by_cases w : q = p ∧ y = v ∧ x < lu
          · rw [dsQ_out (Or.inr (Or.inr (Or.inl (by omega))))]; simp
          · congr 2
            unfold aheadB
            rw [decide_eq_decide]
            omega
      refine rws (n + 300 - lv) lv q _ (by omega) (Nat.le_refl _) lq gq (qq.congr (fun q y x hq hy hx => ?_))
      by_cases w : q = p ∧ y < lv
      · rw [dsQ_out (Or.inl (by omega))]; simp
      · congr 2
        unfold aheadB
        rw [decide_eq_decide]
        omega
  refine Ends.eq (b397_0 (n := n) (by (repeat' first | assumption | refine LX.setF _ _ ?_ (by decide +kernel) | refine LX.setS ?_ rfl | refine LX.setA ?_ (by first | assumption | omega))) (by first | assumption | omega)) ?_
  refine quas 4 0 h _ _ rfl l Agr.rf (qs.congr (fun q y x hq hy hx => ?_))
  unfold aheadB
  rw [decide_eq_false (by omega)]
  simp
end DSC
