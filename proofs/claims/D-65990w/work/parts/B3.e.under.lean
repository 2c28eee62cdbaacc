/-! L3: what a path takes; where it gouges (desk) -/
section UNDER
variable {gv : Nat → Int} {B n d r : Nat} {h : AH} {Q : Nat → Nat → Nat → Bool} {S : Nat → Bool}
theorem Qua.congr {b : Nat} {Q' : Nat → Nat → Nat → Bool} (s : Qua n h b Q) (e : ∀ q y x, q < 4 → y < n → x < n → Q q y x = Q' q y x) : Qua n h b Q' :=
  ⟨s.1, fun q v hq hv => ⟨(s.2 q v hq hv).1, fun x hx => by
    rw [(s.2 q v hq hv).2 x hx]
    by_cases z : x < n
    · rw [e q v x hq hv z]
    · rw [decide_eq_false z]; rfl⟩⟩
theorem Qua.agr {b : Nat} {W : Nat → Nat → Prop} {t : AH} (s : Qua n h b Q) (g : Agr W h t) (hW : ∀ k, ¬ W b k) : Qua n t b Q := ⟨by rw [g.hk]; exact s.1, fun q v hq hv => by rw [g.at _ _ (hW _)]; exact s.2 q v hq hv⟩
/-- one bit more -/
theorem Qua.put {b p y x : Nat} (s : Qua n h b Q) (hn : n ≤ 52) (hp : p < 4) (hy : y < n) (hx : x < n) : Qua n (hset h b (p * n + y) (bop64 129 (hv h b (p * n + y)) (sop64 121 1 (x : Int)))) b (fun q' y' x' => Q q' y' x' || decide (q' = p ∧ y' = y ∧ x' = x)) := by
  refine ⟨s.1, fun q' y' hq' hy' => ?_⟩
  by_cases z : q' = p ∧ y' = y
  · rw [z.1, z.2, hv_set_at]
    refine ⟨cn_bop64, fun j hj => ?_⟩
    rw [tb_or, (s.2 p y hp hy).2 j hj, one_bit (by omega) hj]
    by_cases w : j = x
    · rw [w]; simp [hx]
    · simp [w]
  · have ne : q' * n + y' ≠ p * n + y := fun w => z (by
      have h1 := dm (a := q') hy'
      have h2 := dm (a := p) hy
      rw [w] at h1
      omega)
    rw [hv_set_ne (fun w => ne w.2)]
    refine ⟨(s.2 q' y' hq' hy').1, fun j hj => ?_⟩
    rw [(s.2 q' y' hq' hy').2 j hj]
    have : decide (q' = p ∧ y' = y ∧ j = x) = false := decide_eq_false (fun w => z ⟨w.1, w.2.1⟩)
    show (decide (j < n) && Q q' y' j) = (decide (j < n) && (Q q' y' j || decide (q' = p ∧ y' = y ∧ j = x)))
    rw [this, Bool.or_false]
theorem c_clear325 (l : LX B n h) (hd : 10 ≤ d) (hn : n ≤ 52) : Vd (cll PP (ev PP (gsF gv) B) d 325 [(2, rf (B + 135))] h) (fun h' => Agr (fun c _ => c = B + 142) h h' ∧ Qua n h' (B + 142) (fun _ _ _ => false)) := by
  have k142 : hk h (B + 142) = (3, 4 * n) := l.1 142 _ rfl
  refine Vd.inq (D := 9) hd (Nat.le_of_ble_eq_true rfl) rfl (fun d hd P K => ?_)
  have n4 : ∀ m : Nat, m ≤ 52 → bop32 104 (4 : Int) (m : Int) = ((4 * m : Nat) : Int) := fun m hm => mulNN (x := 4) (by omega)
  have key : ∀ (c k : Nat) (q : AH), k + c = 4 * n → LX B n q → Agr (fun c _ => c = B + 142) h q → (∀ j, j < k → hv q (B + 142) j = 0) → Ends (ev PP (gsF gv) B d 325 2 [(2, rf (B + 135)), (0, (k : Int))] [] q) P := by
    intro c
    induction c with
    | zero =>
      intro k q hk' lq gq lo
      refine Ends.eq (b325_2 (n := n) (by (repeat' first | assumption | refine LX.setF _ _ ?_ (by decide +kernel) | refine LX.setS ?_ rfl | refine LX.setA ?_ (by first | assumption | omega))) (by first | assumption | omega)) ?_
      rw [n4 n hn]
      refine Ends.b3 (fun _ => Ends.sm (K _ ⟨gq, by rw [gq.hk]; exact k142, fun q' v hq' hv' => ?_⟩)) (fun z => by omega)
      rw [lo _ (by have := q_lt (n := n) hq' hv'; omega)]
      exact ⟨⟨by decide, by decide⟩, fun x hx => by rw [tb_0]; simp⟩
    | succ c ih =>
      intro k q hk' lq gq lo
      refine Ends.eq (b325_2 (n := n) (by (repeat' first | assumption | refine LX.setF _ _ ?_ (by decide +kernel) | refine LX.setS ?_ rfl | refine LX.setA ?_ (by first | assumption | omega))) (by first | assumption | omega)) ?_
      rw [n4 n hn, tn, an1, w_succ (by omega)]
      refine Ends.b3 (fun z => by omega) (fun _ => Ends.g ⟨by omega, by omega⟩ ?_)
      refine ih (k + 1) _ (by omega) (LX.setA (t := 1) lq (by rw [gq.hk]; rw [k142])) (gq.set rfl) (fun j hj => ?_)
      by_cases z : j = k
      · rw [z]; exact hv_set_at ..
      · rw [hv_set_ne (by omega)]; exact lo j (by omega)
  refine Ends.eq (b325_0 (n := n) (by (repeat' first | assumption | refine LX.setF _ _ ?_ (by decide +kernel) | refine LX.setS ?_ rfl | refine LX.setA ?_ (by first | assumption | omega))) (by first | assumption | omega)) ?_
  exact key (4 * n) 0 h (by omega) l Agr.rf (fun j hj => absurd hj (by omega))
/-- is a quarter under the tool in a run -/
def unR (r f t y0 q y x : Nat) : Bool := und r (8 * ((x : Int) - (min f t : Nat)) + sU q) (8 * ((y : Int) - y0) + sV q) (max f t - min f t)
theorem unR_out {f t y0 q y x : Nat} (h : (y : Int) < (y0 : Int) - r ∨ y0 + r ≤ y ∨ (x : Int) < (min f t : Nat) - (r : Int) ∨ max f t + r ≤ x) : unR r f t y0 q y x = false := by
  have su := sU_b (q := q)
  have sv := sV_b (q := q)
  unfold unR und
  rw [decide_eq_false]
  omega
theorem max0N {a b : Nat} (h1 : a < 100) (h2 : b < 100) : v891 0 (bop32 100 (a : Int) (b : Int)) = ((a - b : Nat) : Int) := by
  rw [sub32 (by omega) (by omega)]
  unfold v891
  rw [tst2]
  by_cases z : (0 : Int) < (a : Int) - b
  · rw [decide_eq_true z]; show (a : Int) - b = _; omega
  · rw [decide_eq_false z]; show (0 : Int) = _; omega
/-- ahead of (p, v, u) -/
def aheadB (p v u q y x : Nat) : Bool := decide (q < p ∨ (q = p ∧ (y < v ∨ (y = v ∧ x < u))))
theorem c_under334 {i f t y0 : Nat} (l : LX B n h) (hd : 10 ≤ d) (hn : n ≤ 52) (hi : i < 2200) (e9 : hv h (B + 135) 9 = (r : Int)) (hr8 : r ≤ 8) (ef : hv h (B + 136) i = (f : Int)) (et : hv h (B + 137) i = (t : Int)) (ey : hv h (B + 138) i = (y0 : Int)) (hf : f ≤ n) (ht : t ≤ n) (hy : y0 ≤ n) (qs : Qua n h (B + 142) Q) :
    Vd (cll PP (ev PP (gsF gv) B) d 334 [(2, rf (B + 135)), (0, (i : Int))] h) (fun h' => Agr (fun c _ => c = B + 142) h h' ∧ Qua n h' (B + 142) (fun q y x => Q q y x || unR r f t y0 q y x)) := by
  have k142 : hk h (B + 142) = (3, 4 * n) := l.1 142 _ rfl
  refine Vd.inq (D := 9) hd (Nat.le_of_ble_eq_true rfl) rfl (fun d hd P K => ?_)
  obtain ⟨lo, elo⟩ : ∃ m, m = min f t := ⟨_, rfl⟩
  obtain ⟨hi', ehi⟩ : ∃ m, m = max f t := ⟨_, rfl⟩
  have lh : lo ≤ hi' ∧ hi' ≤ n := by omega
  -- a column
  have quas : ∀ (c p : Nat) (q : AH) (u5 u6 : AV), p + c = 4 → LX B n q → Agr (fun c _ => c = B + 142) h q → Qua n q (B + 142) (fun q y x => Q q y x || (aheadB p 0 0 q y x && unR r f t y0 q y x)) → Ends (ev PP (gsF gv) B d 334 37 [(2, rf (B + 135)), (0, (i : Int)), (0, (lo : Int)), (0, ((hi' - lo : Nat) : Int)), (0, (p : Int)), u5, u6] [] q) P := by
    intro c
    induction c with
    | zero =>
      intro p q u5 u6 hp lq gq qq
      obtain rfl : p = 4 := by omega
      refine Ends.eq (b334_37 (n := n) (by (repeat' first | assumption | refine LX.setF _ _ ?_ (by decide +kernel) | refine LX.setS ?_ rfl | refine LX.setA ?_ (by first | assumption | omega))) (by first | assumption | omega)) ?_
      refine Ends.b3 (fun _ => Ends.sm (K _ ⟨gq, qq.congr (fun q y x hq hy hx => ?_)⟩)) (fun z => absurd z (by decide))
      unfold aheadB
      rw [decide_eq_true (Or.inl hq), Bool.true_and]
    | succ c ih =>
      intro p q u5 u6 hp lq gq qq
      have hp4 : p < 4 := by omega
      have su := sU_b (q := p)
      have sv := sV_b (q := p)
      have q9 : hv q (B + 135) 9 = (r : Int) := by rw [gq.at _ _ (by omega)]; exact e9
      have qy : hv q (B + 138) i = (y0 : Int) := by rw [gq.at _ _ (by omega)]; exact ey
      have pn : p * n ≤ 156 := by
        have := Nat.mul_le_mul (show p ≤ 3 by omega) hn
        omega
      refine Ends.eq (b334_37 (n := n) (by (repeat' first | assumption | refine LX.setF _ _ ?_ (by decide +kernel) | refine LX.setS ?_ rfl | refine LX.setA ?_ (by first | assumption | omega))) (by first | assumption | omega)) ?_
      rw [tn, qy, q9, max0N (by omega) (by omega)]
      refine Ends.b3 (fun z => by omega) (fun _ => Ends.g ⟨by omega, by omega⟩ ?_)
      have nxt : ∀ (q2 : AH) (x5 : Int) (u6 : AV), LX B n q2 → Agr (fun c _ => c = B + 142) h q2 → Qua n q2 (B + 142) (fun q y x => Q q y x || (aheadB (p + 1) 0 0 q y x && unR r f t y0 q y x)) → Ends (ev PP (gsF gv) B d 334 192 [(2, rf (B + 135)), (0, (i : Int)), (0, (lo : Int)), (0, ((hi' - lo : Nat) : Int)), (0, (p : Int)), (0, x5), u6] [] q2) P := fun q2 x5 u6 l2 g2 qq2 => by
        refine Ends.eq (b334_192 (n := n) (by (repeat' first | assumption | refine LX.setF _ _ ?_ (by decide +kernel) | refine LX.setS ?_ rfl | refine LX.setA ?_ (by first | assumption | omega))) (by first | assumption | omega)) ?_
        rw [w_succ (by omega)]
        exact ih (p + 1) q2 _ _ (by omega) l2 g2 qq2
      have rws : ∀ (c2 v : Nat) (q2 : AH) (u6 : AV), v + c2 = n + y0 + r → y0 - r ≤ v → LX B n q2 → Agr (fun c _ => c = B + 142) h q2 → Qua n q2 (B + 142) (fun q y x => Q q y x || (aheadB p v 0 q y x && unR r f t y0 q y x)) → Ends (ev PP (gsF gv) B d 334 60 [(2, rf (B + 135)), (0, (i : Int)), (0, (lo : Int)), (0, ((hi' - lo : Nat) : Int)), (0, (p : Int)), (0, (v : Int)), u6] [] q2) P := by
        intro c2
        induction c2 with
        | zero =>
          intro v q2 u6 hv0 hv2 l2 g2 qq2
          refine Ends.eq (b334_60 (n := n) (by (repeat' first | assumption | refine LX.setF _ _ ?_ (by decide +kernel) | refine LX.setS ?_ rfl | refine LX.setA ?_ (by first | assumption | omega))) (by first | assumption | omega)) ?_
          refine Ends.b3 (fun _ => nxt q2 _ _ l2 g2 (qq2.congr (fun q y x hq hy hx => ?_))) (fun z => by omega)
          congr 2
          unfold aheadB
          rw [decide_eq_decide]
          omega
        | succ c2 ihv =>
          intro v q2 u6 hv0 hv2 l2 g2 qq2
          have q29 : hv q2 (B + 135) 9 = (r : Int) := by rw [g2.at _ _ (by omega)]; exact e9
          have q2y : hv q2 (B + 138) i = (y0 : Int) := by rw [g2.at _ _ (by omega)]; exact ey
          refine Ends.eq (b334_60 (n := n) (by (repeat' first | assumption | refine LX.setF _ _ ?_ (by decide +kernel) | refine LX.setS ?_ rfl | refine LX.setA ?_ (by first | assumption | omega))) (by first | assumption | omega)) ?_
          rw [tn, q2y, q29, addNN (by omega)]
          refine Ends.b3 (fun z => nxt q2 _ _ l2 g2 (qq2.congr (fun q y x hq hy hx => ?_))) (fun z => Ends.g ⟨by omega, by omega⟩ (Ends.b3 (fun z2 => nxt q2 _ _ l2 g2 (qq2.congr (fun q y x hq hy hx => ?_))) (fun z2 => ?_)))
          · congr 2
            unfold aheadB
            rw [decide_eq_decide]
            omega
          · by_cases w : q = p ∧ v ≤ y
            · rw [unR_out (Or.inr (Or.inl (by omega)))]; simp
            · congr 2
              unfold aheadB
              rw [decide_eq_decide]
              omega
          rw [max0N (by omega) (by omega)]
          have cols : ∀ (c3 u : Nat) (q3 : AH), u + c3 = n + hi' + r → lo - r ≤ u → LX B n q3 → Agr (fun c _ => c = B + 142) h q3 → Qua n q3 (B + 142) (fun q y x => Q q y x || (aheadB p v u q y x && unR r f t y0 q y x)) → Ends (ev PP (gsF gv) B d 334 97 [(2, rf (B + 135)), (0, (i : Int)), (0, (lo : Int)), (0, ((hi' - lo : Nat) : Int)), (0, (p : Int)), (0, (v : Int)), (0, (u : Int))] [] q3) P := by
            intro c3
            have done : ∀ (q3 : AH) (u : Nat), LX B n q3 → Agr (fun c _ => c = B + 142) h q3 → Qua n q3 (B + 142) (fun q y x => Q q y x || (aheadB p v u q y x && unR r f t y0 q y x)) → (n ≤ u ∨ hi' + r ≤ u) → Ends (ev PP (gsF gv) B d 334 186 [(2, rf (B + 135)), (0, (i : Int)), (0, (lo : Int)), (0, ((hi' - lo : Nat) : Int)), (0, (p : Int)), (0, (v : Int)), (0, (u : Int))] [] q3) P := fun q3 u l3 g3 qq3 hu => by
              refine Ends.eq (b334_186 (n := n) (by (repeat' first | assumption | refine LX.setF _ _ ?_ (by decide +kernel) | refine LX.setS ?_ rfl | refine LX.setA ?_ (by first | assumption | omega))) (by first | assumption | omega)) ?_
              rw [w_succ (by omega)]
              refine ihv (v + 1) q3 _ (by omega) (by omega) l3 g3 (qq3.congr (fun q y x hq hy hx => ?_))
              by_cases w : q = p ∧ y = v ∧ u ≤ x
              · rw [unR_out (Or.inr (Or.inr (Or.inr (by omega))))]; simp
              · congr 2
                unfold aheadB
                rw [decide_eq_decide]
                omega
            induction c3 with
            | zero =>
              intro u q3 hu hu2 l3 g3 qq3
              refine Ends.eq (b334_97 (n := n) (by (repeat' first | assumption | refine LX.setF _ _ ?_ (by decide +kernel) | refine LX.setS ?_ rfl | refine LX.setA ?_ (by first | assumption | omega))) (by first | assumption | omega)) ?_
              exact Ends.b3 (fun _ => done q3 u l3 g3 qq3 (Or.inl (by omega))) (fun z => by omega)
            | succ c3 ihu =>
              intro u q3 hu hu2 l3 g3 qq3
              have q39 : hv q3 (B + 135) 9 = (r : Int) := by rw [g3.at _ _ (by omega)]; exact e9
              have q3y : hv q3 (B + 138) i = (y0 : Int) := by rw [g3.at _ _ (by omega)]; exact ey
              refine Ends.eq (b334_97 (n := n) (by (repeat' first | assumption | refine LX.setF _ _ ?_ (by decide +kernel) | refine LX.setS ?_ rfl | refine LX.setA ?_ (by first | assumption | omega))) (by first | assumption | omega)) ?_
              rw [tn, q3y, q39, show bop32 96 (bop32 96 (lo : Int) ((hi' - lo : Nat) : Int)) (r : Int) = ((hi' + r : Nat) : Int) from by rw [addNN (by omega), addNN (by omega)]; omega]
              refine Ends.b3 (fun z => done q3 u l3 g3 qq3 (Or.inl (by omega))) (fun z1 => Ends.b3 (fun z => done q3 u l3 g3 qq3 (Or.inr (by omega))) (fun z2 => Ends.g ⟨by omega, by omega⟩ ?_))
              have hvn : v < n := by omega
              have hun : u < n := by omega
              have ql := q_lt (n := n) hp4 hvn
              rw [v434_is ⟨p, hp4⟩, v435_is ⟨p, hp4⟩, sub32 (x := (u : Int)) (by omega) (by omega), mul32 (x := 8) (y := (u : Int) - lo) (by omega) (by omega), sub32 (x := (v : Int)) (by omega) (by omega), mul32 (x := 8) (y := (v : Int) - y0) (by omega) (by omega), add32 (x := 8 * ((u : Int) - lo)) (by simp only; omega) (by simp only; omega), add32 (x := 8 * ((v : Int) - y0)) (by simp only; omega) (by simp only; omega), v328_is q39 hr8 (by simp only; omega) (by simp only; omega) (by omega), show bop32 104 (p : Int) (n : Int) = ((p * n : Nat) : Int) from mulNN (by omega), addNN (by omega), tn, an1]
              have eu : und r (8 * ((u : Int) - lo) + sU p) (8 * ((v : Int) - y0) + sV p) (hi' - lo) = unR r f t y0 p v u := by unfold unR; rw [elo, ehi]
              have nu : ∀ (q4 : AH), LX B n q4 → Agr (fun c _ => c = B + 142) h q4 → Qua n q4 (B + 142) (fun q y x => Q q y x || (aheadB p v (u + 1) q y x && unR r f t y0 q y x)) → Ends (ev PP (gsF gv) B d 334 180 [(2, rf (B + 135)), (0, (i : Int)), (0, (lo : Int)), (0, ((hi' - lo : Nat) : Int)), (0, (p : Int)), (0, (v : Int)), (0, (u : Int))] [] q4) P := fun q4 l4 g4 qq4 => by
                refine Ends.eq (b334_180 (n := n) (by (repeat' first | assumption | refine LX.setF _ _ ?_ (by decide +kernel) | refine LX.setS ?_ rfl | refine LX.setA ?_ (by first | assumption | omega))) (by first | assumption | omega)) ?_
                rw [w_succ (by omega)]
                exact ihu (u + 1) q4 (by omega) (by omega) l4 g4 qq4
              simp only [eu]
              by_cases w : unR r f t y0 p v u = true
              · rw [if_pos w]
                refine Ends.b0 (fun z => absurd z (by decide)) (fun _ => Ends.g ⟨by omega, by omega⟩ ?_)
                refine nu _ (LX.setA (t := 1) l3 (by rw [g3.hk]; rw [k142])) (g3.set rfl) ((qq3.put hn hp4 hvn hun).congr (fun q y x hq hy hx => ?_))
                by_cases e : q = p ∧ y = v ∧ x = u
                · rw [e.1, e.2.1, e.2.2, w]
                  unfold aheadB
                  simp
                · rw [decide_eq_false e, Bool.or_false]
                  congr 2
                  unfold aheadB
                  rw [decide_eq_decide]
                  omega
              · rw [if_neg w]
                refine Ends.b0 (fun _ => nu q3 l3 g3 (qq3.congr (fun q y x hq hy hx => ?_))) (fun z => absurd rfl z)
                by_cases e : q = p ∧ y = v ∧ x = u
                · rw [e.1, e.2.1, e.2.2, Bool.eq_false_iff.mpr w]; simp
                · congr 2
                  unfold aheadB
                  rw [decide_eq_decide]
                  omega
          refine cols (n + hi' + r - (lo - r)) (lo - r) q2 (by omega) (Nat.le_refl _) l2 g2 (qq2.congr (fun q y x hq hy hx => ?_))
          by_cases w : q = p ∧ y = v ∧ x < lo - r
          · rw [unR_out (Or.inr (Or.inr (Or.inl (by omega))))]; simp
          · congr 2
            unfold aheadB
            rw [decide_eq_decide]
            omega
      refine rws (n + y0 + r - (y0 - r)) (y0 - r) q _ (by omega) (Nat.le_refl _) lq gq (qq.congr (fun q y x hq hy hx => ?_))
      by_cases w : q = p ∧ y < y0 - r
      · rw [unR_out (Or.inl (by omega))]; simp
      · congr 2
        unfold aheadB
        rw [decide_eq_decide]
        omega
  refine Ends.eq (b334_0 (n := n) (by (repeat' first | assumption | refine LX.setF _ _ ?_ (by decide +kernel) | refine LX.setS ?_ rfl | refine LX.setA ?_ (by first | assumption | omega))) (by first | assumption | omega)) ?_
  rw [tn, ef, et, minN, maxN, ← elo, ← ehi, subNN (by omega) (by omega)]
  refine Ends.g ⟨by omega, by omega⟩ (quas 4 0 h _ _ rfl l Agr.rf (qs.congr (fun q y x hq hy hx => ?_)))
  unfold aheadB
  rw [decide_eq_false (by omega)]
  simp
/-- runs of a path in the desk's cells -/
def RnD (B : Nat) (h : AH) (n N : Nat) (fr to at_ : Nat → Nat) : Prop := N ≤ 2200 ∧ ∀ i, i < N → hv h (B + 136) i = (fr i : Int) ∧ hv h (B + 137) i = (to i : Int) ∧ hv h (B + 138) i = (at_ i : Int) ∧ fr i ≤ n ∧ to i ≤ n ∧ at_ i ≤ n
theorem RnD.agr {N : Nat} {fr to at_ : Nat → Nat} {W : Nat → Nat → Prop} {q : AH} (s : RnD B h n N fr to at_) (g : Agr W h q) (hW : ∀ c k, B + 136 ≤ c → c ≤ B + 138 → ¬ W c k) : RnD B q n N fr to at_ := ⟨s.1, fun i hi => by
  rw [g.at _ _ (hW _ _ (by omega) (by omega)), g.at _ _ (hW _ _ (by omega) (by omega)), g.at _ _ (hW _ _ (by omega) (by omega))]
  exact s.2 i hi⟩
/-- is a quarter under one of the first i runs -/
def unA (r : Nat) (fr to at_ : Nat → Nat) : Nat → Nat → Nat → Nat → Bool
  | 0, _, _, _ => false
  | i + 1, q, y, x => unA r fr to at_ i q y x || unR r (fr i) (to i) (at_ i) q y x
def tkW (B a : Nat) : Nat → Nat → Prop := fun c _ => c = a ∨ c = B + 142
theorem c_taken333 {a N z : Nat} {fr to at_ : Nat → Nat} (l : LX B n h) (hd : 12 ≤ d) (hn0 : 0 < n) (hn : n ≤ 52) (m : TbC B h) (sa : SG n h a S) (ha : a = B + 117 ∨ B + 246 ≤ a) (e8 : hv h (B + 135) 8 = (N : Int)) (e9 : hv h (B + 135) 9 = (r : Int)) (e10 : hv h (B + 135) 10 = (z : Int)) (hr8 : r ≤ 8) (hz : z ≤ n) (D : RnD B h n N fr to at_) :
    Vd (cll PP (ev PP (gsF gv) B) d 333 [(2, rf (B + 135)), (2, rf a)] h) (fun h' => Agr (tkW B a) h h' ∧ SG n h' a (fun g => S g || prG n (unA r fr to at_ N) 2 (z : Int) (n : Int) g)) := by
  refine Vd.inq (D := 11) hd (Nat.le_of_ble_eq_true rfl) rfl (fun d hd P K => ?_)
  have N22 := D.1
  have key : ∀ (c i : Nat) (q : AH), i + c = N → LX B n q → Agr (fun c _ => c = B + 142) h q → Qua n q (B + 142) (unA r fr to at_ i) → Ends (ev PP (gsF gv) B d 333 6 [(2, rf (B + 135)), (2, rf a), (0, (i : Int))] [] q) P := by
    intro c
    induction c with
    | zero =>
      intro i q hi lq gq qq
      obtain rfl : i = N := by omega
      refine Ends.eq (b333_6 (n := n) (by (repeat' first | assumption | refine LX.setF _ _ ?_ (by decide +kernel) | refine LX.setS ?_ rfl | refine LX.setA ?_ (by first | assumption | omega))) (by first | assumption | omega)) ?_
      rw [gq.at _ _ (show ¬ B + 135 = B + 142 by omega), e8, gq.at _ _ (show ¬ B + 135 = B + 142 by omega), e10]
      refine Ends.b3 (fun _ => ?_) (fun z => by omega)
      refine Ends.cv lq (by decide +kernel) (c_unitePrism (ax := 2) (fr := (z : Int)) (to := (n : Int)) lq (by omega) hn0 hn (m.ext l.2.2 gq.ext (fun c k h1 h2 w => by omega)) (sa.agr gq (fun k w => by omega)) qq (by omega) (by omega) ha (by decide) (by omega) (by omega)) (fun h2 l2 _ _ _ ⟨f2, s2⟩ => ?_)
      refine Ends.eq (b333_46 (n := n) (by (repeat' first | assumption | refine LX.setF _ _ ?_ (by decide +kernel) | refine LX.setS ?_ rfl | refine LX.setA ?_ (by first | assumption | omega))) (by first | assumption | omega)) ?_
      exact Ends.sm (K _ ⟨(gq.sub (fun c k w => Or.inr w)).tr f2.agr (fun c k w => Or.inl w), s2⟩)
    | succ c ih =>
      intro i q hi lq gq qq
      have Di := (D.agr gq (fun c k h1 h2 w => by omega)).2 i (by omega)
      refine Ends.eq (b333_6 (n := n) (by (repeat' first | assumption | refine LX.setF _ _ ?_ (by decide +kernel) | refine LX.setS ?_ rfl | refine LX.setA ?_ (by first | assumption | omega))) (by first | assumption | omega)) ?_
      rw [gq.at _ _ (show ¬ B + 135 = B + 142 by omega), e8]
      refine Ends.b3 (fun z => by omega) (fun _ => ?_)
      refine Ends.cv lq (by decide +kernel) (c_under334 (i := i) (r := r) lq (by omega) hn (by omega) (by rw [gq.at _ _ (by omega)]; exact e9) hr8 Di.1 Di.2.1 Di.2.2.1 Di.2.2.2.1 Di.2.2.2.2.1 Di.2.2.2.2.2 qq) (fun h2 l2 _ _ _ ⟨g2, q2⟩ => ?_)
      refine Ends.eq (b333_19 (n := n) (by (repeat' first | assumption | refine LX.setF _ _ ?_ (by decide +kernel) | refine LX.setS ?_ rfl | refine LX.setA ?_ (by first | assumption | omega))) (by first | assumption | omega)) ?_
      rw [w_succ (by omega)]
      exact ih (i + 1) h2 (by omega) l2 (gq.tr g2 (fun c k w => w)) q2
  refine Ends.eq (b333_0 (n := n) (by (repeat' first | assumption | refine LX.setF _ _ ?_ (by decide +kernel) | refine LX.setS ?_ rfl | refine LX.setA ?_ (by first | assumption | omega))) (by first | assumption | omega)) ?_
  refine Ends.cv l (by decide +kernel) (c_clear325 l (by omega) hn) (fun h1 l1 _ _ _ ⟨g1, q1⟩ => ?_)
  refine Ends.eq (b333_4 (n := n) (by (repeat' first | assumption | refine LX.setF _ _ ?_ (by decide +kernel) | refine LX.setS ?_ rfl | refine LX.setA ?_ (by first | assumption | omega))) (by first | assumption | omega)) ?_
  exact key N 0 h1 (by omega) l1 g1 q1
/-- run i goes through S -/
def goS (n r z : Nat) (S : Nat → Bool) (f t y0 : Nat) : Prop := ∃ q y x, q < 4 ∧ y < n ∧ x < n ∧ unR r f t y0 q y x = true ∧ ShP n S z q y x
/-- the first run that goes through S; -1 -/
def GoA (n r z N : Nat) (S : Nat → Bool) (fr to at_ : Nat → Nat) (x : Int) : Prop := (∃ i : Nat, i < N ∧ x = (i : Int) ∧ goS n r z S (fr i) (to i) (at_ i) ∧ ∀ j, j < i → ¬ goS n r z S (fr j) (to j) (at_ j)) ∨ (x = -1 ∧ ∀ j, j < N → ¬ goS n r z S (fr j) (to j) (at_ j))
theorem GoA.uniq {z N : Nat} {fr to at_ : Nat → Nat} {x y : Int} (a : GoA n r z N S fr to at_ x) (b : GoA n r z N S fr to at_ y) : x = y := by
  rcases a with ⟨i, a1, a2, a3, a4⟩ | ⟨a1, a2⟩ <;> rcases b with ⟨j, b1, b2, b3, b4⟩ | ⟨b1, b2⟩
  · rcases Nat.lt_trichotomy i j with w | w | w
    · exact absurd a3 (b4 i w)
    · omega
    · exact absurd b3 (a4 j w)
  · exact absurd a3 (b2 i a1)
  · exact absurd b3 (a2 j b1)
  · rw [a1, b1]
def goW2 (B : Nat) : Nat → Nat → Prop := fun c _ => c = B + 141 ∨ c = B + 142
theorem c_gouge326 {a N z : Nat} {fr to at_ : Nat → Nat} (l : LX B n h) (hd : 12 ≤ d) (hn0 : 0 < n) (hn : n ≤ 52) (m : TbC B h) (sa : SG n h a S) (ha : a = B + 117 ∨ B + 246 ≤ a) (e8 : hv h (B + 135) 8 = (N : Int)) (e9 : hv h (B + 135) 9 = (r : Int)) (e10 : hv h (B + 135) 10 = (z : Int)) (hr8 : r ≤ 8) (hz : z ≤ n) (D : RnD B h n N fr to at_) :
    Vt 0 (cll PP (ev PP (gsF gv) B) d 326 [(2, rf (B + 135)), (2, rf a)] h) (fun v h' => Agr (goW2 B) h h' ∧ GoA n r z N S fr to at_ v) := by
  refine Vt.inq (D := 11) hd (Nat.le_of_ble_eq_true rfl) rfl (fun d hd P K => ?_)
  have N22 := D.1
  have n4 : ∀ m : Nat, m ≤ 52 → bop32 104 (4 : Int) (m : Int) = ((4 * m : Nat) : Int) := fun m hm => mulNN (x := 4) (by omega)
  refine Ends.eq (b326_0 (n := n) (by (repeat' first | assumption | refine LX.setF _ _ ?_ (by decide +kernel) | refine LX.setS ?_ rfl | refine LX.setA ?_ (by first | assumption | omega))) (by first | assumption | omega)) ?_
  rw [e8, e10]
  by_cases N0 : N = 0
  · refine Ends.b1 (fun z => absurd (by omega) z) (fun _ => Ends.sm (K _ _ ⟨Agr.rf, Or.inr ⟨rfl, fun j hj => absurd hj (by omega)⟩⟩))
  refine Ends.b1 (fun _ => ?_) (fun w => absurd w (by omega))
  refine Ends.cv l (by decide +kernel) (c_shadow332 (z0 := z) l (by omega) hn0 hn m sa ha hz) (fun h1 l1 _ _ _ ⟨g1, Q, qs1, hQ⟩ => ?_)
  have G1 : Agr (goW2 B) h h1 := g1.sub (fun c k w => Or.inl w)
  refine Ends.eq (b326_18 (n := n) (by (repeat' first | assumption | refine LX.setF _ _ ?_ (by decide +kernel) | refine LX.setS ?_ rfl | refine LX.setA ?_ (by first | assumption | omega))) (by first | assumption | omega)) ?_
  have key : ∀ (c i : Nat) (q : AH) (u3 : AV), i + c = N → LX B n q → Agr (fun c _ => c = B + 142) h1 q → (∀ j, j < i → ¬ goS n r z S (fr j) (to j) (at_ j)) → Ends (ev PP (gsF gv) B d 326 20 [(2, rf (B + 135)), (2, rf a), (0, (i : Int)), u3] [] q) P := by
    intro c
    induction c with
    | zero =>
      intro i q u3 hi lq gq no
      obtain rfl : i = N := by omega
      have Gq := G1.tr gq (fun c k w => Or.inr w)
      refine Ends.eq (b326_20 (n := n) (by (repeat' first | assumption | refine LX.setF _ _ ?_ (by decide +kernel) | refine LX.setS ?_ rfl | refine LX.setA ?_ (by first | assumption | omega))) (by first | assumption | omega)) ?_
      rw [Gq.at _ _ (show ¬ goW2 B (B + 135) 8 by unfold goW2; omega), e8]
      exact Ends.b3 (fun _ => Ends.sm (K _ _ ⟨Gq, Or.inr ⟨rfl, no⟩⟩)) (fun w => by omega)
    | succ c ih =>
      intro i q u3 hi lq gq no
      have Gq := G1.tr gq (fun c k w => Or.inr w)
      refine Ends.eq (b326_20 (n := n) (by (repeat' first | assumption | refine LX.setF _ _ ?_ (by decide +kernel) | refine LX.setS ?_ rfl | refine LX.setA ?_ (by first | assumption | omega))) (by first | assumption | omega)) ?_
      rw [Gq.at _ _ (show ¬ goW2 B (B + 135) 8 by unfold goW2; omega), e8]
      refine Ends.b3 (fun w => by omega) (fun _ => ?_)
      refine Ends.cv lq (by decide +kernel) (c_clear325 lq (by omega) hn) (fun h2 l2 _ _ _ ⟨g2, q2⟩ => ?_)
      have gq2 := gq.tr g2 (fun c k w => w)
      have Gq2 := G1.tr gq2 (fun c k w => Or.inr w)
      have Di := (D.agr Gq2 (fun c k h1 h2 w => by unfold goW2 at w; omega)).2 i (by omega)
      refine Ends.eq (b326_32 (n := n) (by (repeat' first | assumption | refine LX.setF _ _ ?_ (by decide +kernel) | refine LX.setS ?_ rfl | refine LX.setA ?_ (by first | assumption | omega))) (by first | assumption | omega)) ?_
      refine Ends.cv l2 (by decide +kernel) (c_under334 (i := i) (r := r) l2 (by omega) hn (by omega) (by rw [Gq2.at _ _ (by unfold goW2; omega)]; exact e9) hr8 Di.1 Di.2.1 Di.2.2.1 Di.2.2.2.1 Di.2.2.2.2.1 Di.2.2.2.2.2 q2) (fun h3 l3 _ _ _ ⟨g3, q3⟩ => ?_)
      have gq3 := gq2.tr g3 (fun c k w => w)
      have Gq3 := G1.tr gq3 (fun c k w => Or.inr w)
      have q3s : Qua n h3 (B + 141) Q := qs1.agr gq3 (fun k w => by omega)
      refine Ends.eq (b326_37 (n := n) (by (repeat' first | assumption | refine LX.setF _ _ ?_ (by decide +kernel) | refine LX.setS ?_ rfl | refine LX.setA ?_ (by first | assumption | omega))) (by first | assumption | omega)) ?_
      have scan : ∀ (c2 k : Nat), k + c2 = 4 * n → (∀ q y x, q < 4 → y < n → x < n → q * n + y < k → unR r (fr i) (to i) (at_ i) q y x = true → ¬ ShP n S z q y x) → Ends (ev PP (gsF gv) B d 326 39 [(2, rf (B + 135)), (2, rf a), (0, (i : Int)), (0, (k : Int))] [] h3) P := by
        intro c2
        induction c2 with
        | zero =>
          intro k hk nk
          refine Ends.eq (b326_39 (n := n) (by (repeat' first | assumption | refine LX.setF _ _ ?_ (by decide +kernel) | refine LX.setS ?_ rfl | refine LX.setA ?_ (by first | assumption | omega))) (by first | assumption | omega)) ?_
          rw [n4 n hn, w_succ (by omega)]
          refine Ends.b3 (fun _ => ih (i + 1) h3 _ (by omega) l3 gq3 (fun j hj => ?_)) (fun w => by omega)
          by_cases e : j = i
          · rw [e]
            rintro ⟨q, y, x, h1, h2, h3, h4, h5⟩
            exact nk q y x h1 h2 h3 (by have := q_lt (n := n) h1 h2; omega) h4 h5
          · exact no j (by omega)
        | succ c2 ihk =>
          intro k hk nk
          -- k is row y of quarter q
          have hkn : k < 4 * n := by omega
          have dk := Nat.div_add_mod k n
          have hy : k % n < n := Nat.mod_lt _ hn0
          have hq : k / n < 4 := Nat.div_lt_of_lt_mul (by rw [Nat.mul_comm]; exact hkn)
          have ek : k / n * n + k % n = k := by rw [Nat.mul_comm]; exact dk
          have c1 := q3.2 (k / n) (k % n) hq hy
          have c2' := q3s.2 (k / n) (k % n) hq hy
          rw [ek] at c1 c2'
          have c1x : ∀ x, x < 64 → tb (hv h3 (B + 142) k) x = (decide (x < n) && unR r (fr i) (to i) (at_ i) (k / n) (k % n) x) := fun x hx => (c1.2 x hx).trans (by simp only [Bool.false_or])
          have hz' : bop64 127 (hv h3 (B + 142) k) (hv h3 (B + 141) k) = 0 ↔ ∀ x, x < n → unR r (fr i) (to i) (at_ i) (k / n) (k % n) x = true → ¬ ShP n S z (k / n) (k % n) x := by
            rw [tb_z cn_bop64]
            constructor
            · intro w x hx hu hs
              have := w x (by omega)
              rw [tb_and, c1x x (by omega), c2'.2 x (by omega), decide_eq_true hx, (hQ _ _ x hq hy hx).mpr hs, hu] at this
              simp at this
            · intro w x hx
              rw [tb_and, c1x x hx, c2'.2 x hx]
              by_cases hxn : x < n
              · cases hu : unR r (fr i) (to i) (at_ i) (k / n) (k % n) x
                · simp
                · cases hs : Q (k / n) (k % n) x
                  · simp
                  · exact absurd ((hQ _ _ x hq hy hxn).mp hs) (w x hxn hu)
              · rw [decide_eq_false hxn]; simp
          refine Ends.eq (b326_39 (n := n) (by (repeat' first | assumption | refine LX.setF _ _ ?_ (by decide +kernel) | refine LX.setS ?_ rfl | refine LX.setA ?_ (by first | assumption | omega))) (by first | assumption | omega)) ?_
          rw [n4 n hn, tn, w_succ (i := k) (by omega)]
          refine Ends.b3 (fun w => by omega) (fun _ => Ends.g ⟨by omega, by omega⟩ (Ends.b0 (fun w => ?_) (fun w => ?_)))
          · have w0 := hz'.mp (cmp64_z.mp w)
            refine ihk (k + 1) (by omega) (fun q y x h1 h2 h3 h4 => ?_)
            by_cases e : q * n + y = k
            · have d1 := dm (a := q) h2
              rw [e] at d1
              rw [← d1.1, ← d1.2]
              exact w0 x h3
            · exact nk q y x h1 h2 h3 (by omega)
          · have w0 : ¬ ∀ x, x < n → unR r (fr i) (to i) (at_ i) (k / n) (k % n) x = true → ¬ ShP n S z (k / n) (k % n) x := fun v => w (cmp64_z.mpr (hz'.mpr v))
            refine Ends.sm (K _ _ ⟨Gq3, Or.inl ⟨i, by omega, rfl, Classical.byContradiction (fun ng => w0 (fun x hx hu hs => ng ⟨_, _, x, hq, hy, hx, hu, hs⟩)), no⟩⟩)
      exact scan (4 * n) 0 (by omega) (fun q y x h1 h2 h3 h4 => absurd h4 (by omega))
  exact key N 0 h1 _ (by omega) l1 Agr.rf (fun j hj => absurd hj (by omega))
end UNDER
