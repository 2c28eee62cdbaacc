/-! L3: tools (desk): quarters cleared, squares, discs, boxes -/
section TOOLQ
variable {gv : Nat → Int} {B n d a : Nat} {h : AH} {S : Nat → Bool} {nb : Nat → Int} {Q0 : Nat → Nat → Nat → Bool}
theorem qcl_114 {q : AH} {b : Nat} (k114 : hk q b = (3, 4 * n)) (lo : ∀ j, j < 4 * n → hv q b j = 0) : Qua n q b (fun _ _ _ => false) :=
  ⟨k114, fun p v hp hv => by
    have := q_lt (n := n) hp hv
    rw [lo _ this]
    exact ⟨⟨by decide, by decide⟩, fun x hx => by rw [tb_0]; simp⟩⟩
theorem c_clearQ257 (l : LX B n h) (hd : 10 ≤ d) (hn : n ≤ 52) : Vd (cll PP (ev PP (gsF gv) B) d 257 [(2, rf (B + 92))] h) (fun h' => Agr (fun c _ => c = B + 114) h h' ∧ Qua n h' (B + 114) (fun _ _ _ => false)) := by
  have k114 : hk h (B + 114) = (3, 4 * n) := l.1 114 _ rfl
  refine Vd.inq (D := 9) hd (Nat.le_of_ble_eq_true rfl) rfl (fun d hd P K => ?_)
  have clr : ∀ (c k : Nat) (q : AH), k + c = 4 * n → LX B n q → Agr (fun c _ => c = B + 114) h q → (∀ j, j < k → hv q (B + 114) j = 0) → Ends (ev PP (gsF gv) B d 257 2 [(2, rf (B + 92)), (0, (k : Int))] [] q) P := by
    intro c
    induction c with
    | zero =>
      intro k q hk lq gq lo
      refine Ends.eq (b257_2 (n := n) (by (repeat' first | assumption | refine LX.setF _ _ ?_ (by decide +kernel) | refine LX.setS ?_ rfl | refine LX.setA ?_ (by first | assumption | omega))) (by first | assumption | omega)) ?_
      rw [show bop32 104 (4 : Int) (n : Int) = ((4 * n : Nat) : Int) from mulNN (x := 4) (by omega)]
      exact Ends.b3 (fun _ => Ends.sm (K _ ⟨gq, qcl_114 (by rw [gq.hk]; exact k114) (fun j hj => lo j (by omega))⟩)) (fun z => by omega)
    | succ c ih =>
      intro k q hk lq gq lo
      refine Ends.eq (b257_2 (n := n) (by (repeat' first | assumption | refine LX.setF _ _ ?_ (by decide +kernel) | refine LX.setS ?_ rfl | refine LX.setA ?_ (by first | assumption | omega))) (by first | assumption | omega)) ?_
      rw [show bop32 104 (4 : Int) (n : Int) = ((4 * n : Nat) : Int) from mulNN (x := 4) (by omega), w_succ (by omega), tn, an1]
      refine Ends.b3 (fun z => by omega) (fun _ => Ends.g ⟨by omega, by omega⟩ ?_)
      refine ih (k + 1) _ (by omega) (LX.setS lq rfl) (gq.set rfl) (fun j hj => ?_)
      by_cases e : j = k
      · rw [e]; exact hv_set_at ..
      · rw [hv_set_ne (by omega)]; exact lo j (by omega)
  refine Ends.eq (b257_0 (n := n) (by (repeat' first | assumption | refine LX.setF _ _ ?_ (by decide +kernel) | refine LX.setS ?_ rfl | refine LX.setA ?_ (by first | assumption | omega))) (by first | assumption | omega)) ?_
  exact clr (4 * n) 0 h (by omega) l Agr.rf (fun j hj => absurd hj (by omega))
theorem c_square311 (l : LX B n h) (hd : 12 ≤ d) (hn : n ≤ 52) (nbb : ∀ k, k < 6 → -200 ≤ nb k ∧ nb k ≤ 200) :
    Vd (cll PP (ev PP (gsF gv) B) d 311 [(2, rf (B + 92)), (0, (nb 0)), (0, (nb 1)), (0, (nb 3)), (0, (nb 4))] h) (fun h' => Agr (fun c _ => c = B + 114) h h' ∧ Qua n h' (B + 114) (bkQ nb)) := by
  have k114 : hk h (B + 114) = (3, 4 * n) := l.1 114 _ rfl
  refine Vd.inq (D := 11) hd (Nat.le_of_ble_eq_true rfl) rfl (fun d hd P K => ?_)
  have n0 := nbb 0 (by decide)
  have n1 := nbb 1 (by decide)
  have n3 := nbb 3 (by decide)
  have n4 := nbb 4 (by decide)
  have fin : ∀ (q : AH), LX B n q → Agr (fun c _ => c = B + 114) h q → Qua n q (B + 114) (bkQ nb) → Ends (some ((0, (9, 0)), q)) P := fun q lq gq qq => Ends.sm (K _ ⟨gq, qq⟩)
  -- rows
  have rws : ∀ (c v : Nat) (q : AH) (u6 u7 : AV), v + c = n + 300 → (nb 1).toNat ≤ v → LX B n q → Agr (fun c _ => c = B + 114) h q → Qua n q (B + 114) (fun p y x => bkQ nb p y x && decide (y < v)) → Ends (ev PP (gsF gv) B d 311 11 [(2, rf (B + 92)), (0, nb 0), (0, nb 1), (0, nb 3), (0, nb 4), (0, (v : Int)), u6, u7] [] q) P := by
    intro c
    induction c with
    | zero =>
      intro v q u6 u7 hv0 hv1 lq gq qq
      refine Ends.eq (b311_11 (n := n) (by (repeat' first | assumption | refine LX.setF _ _ ?_ (by decide +kernel) | refine LX.setS ?_ rfl | refine LX.setA ?_ (by first | assumption | omega))) (by first | assumption | omega)) ?_
      rw [minI]
      refine Ends.b3 (fun _ => fin q lq gq (qq.congr (fun p y x _ hy _ => by rw [decide_eq_true (by omega), Bool.and_true]))) (fun z => by split at z <;> omega)
    | succ c ih =>
      intro v q u6 u7 hv0 hv1 lq gq qq
      refine Ends.eq (b311_11 (n := n) (by (repeat' first | assumption | refine LX.setF _ _ ?_ (by decide +kernel) | refine LX.setS ?_ rfl | refine LX.setA ?_ (by first | assumption | omega))) (by first | assumption | omega)) ?_
      rw [minI, max0J]
      refine Ends.b3 (fun z => fin q lq gq (qq.congr (fun p y x _ hy _ => ?_))) (fun z => ?_)
      · unfold bkQ
        by_cases w : y < v
        · rw [decide_eq_true w, Bool.and_true]
        · rw [decide_eq_false w, Bool.and_false, decide_eq_false (by split at z <;> omega)]
      have hvn : v < n ∧ (v : Int) < nb 4 := by split at z <;> omega
      have cls : ∀ (c2 u : Nat) (q2 : AH) (u7 : AV), u + c2 = n + 300 → (nb 0).toNat ≤ u → LX B n q2 → Agr (fun c _ => c = B + 114) h q2 → Qua n q2 (B + 114) (fun p y x => bkQ nb p y x && decide (y < v ∨ (y = v ∧ x < u))) → Ends (ev PP (gsF gv) B d 311 32 [(2, rf (B + 92)), (0, nb 0), (0, nb 1), (0, nb 3), (0, nb 4), (0, (v : Int)), (0, (u : Int)), u7] [] q2) P := by
        intro c2
        have nxt : ∀ (q2 : AH) (u : Nat) (u7 : AV), LX B n q2 → Agr (fun c _ => c = B + 114) h q2 → Qua n q2 (B + 114) (fun p y x => bkQ nb p y x && decide (y < v ∨ (y = v ∧ x < u))) → ((n : Int) ≤ u ∨ nb 3 ≤ (u : Int)) → Ends (ev PP (gsF gv) B d 311 11 [(2, rf (B + 92)), (0, nb 0), (0, nb 1), (0, nb 3), (0, nb 4), (0, w32 ((v : Int) + 1)), (0, (u : Int)), u7] [] q2) P := fun q2 u u7 l2 g2 qq2 hu => by
          rw [w_succ (by omega)]
          refine ih (v + 1) q2 _ _ (by omega) (by omega) l2 g2 (qq2.congr (fun p y x _ hy hx => ?_))
          unfold bkQ
          rw [← Bool.decide_and, ← Bool.decide_and, decide_eq_decide]
          omega
        induction c2 with
        | zero =>
          intro u q2 u7 hu hu1 l2 g2 qq2
          refine Ends.eq (b311_32 (n := n) (by (repeat' first | assumption | refine LX.setF _ _ ?_ (by decide +kernel) | refine LX.setS ?_ rfl | refine LX.setA ?_ (by first | assumption | omega))) (by first | assumption | omega)) ?_
          rw [minI]
          exact Ends.b3 (fun _ => nxt q2 u _ l2 g2 qq2 (Or.inl (by omega))) (fun z => by split at z <;> omega)
        | succ c2 ihu =>
          intro u q2 u7 hu hu1 l2 g2 qq2
          refine Ends.eq (b311_32 (n := n) (by (repeat' first | assumption | refine LX.setF _ _ ?_ (by decide +kernel) | refine LX.setS ?_ rfl | refine LX.setA ?_ (by first | assumption | omega))) (by first | assumption | omega)) ?_
          rw [minI]
          refine Ends.b3 (fun z => nxt q2 u _ l2 g2 qq2 (by split at z <;> omega)) (fun z => ?_)
          have hun : u < n ∧ (u : Int) < nb 3 := by split at z <;> omega
          have qls : ∀ (c3 p : Nat) (q3 : AH), p + c3 = 4 → LX B n q3 → Agr (fun c _ => c = B + 114) h q3 → Qua n q3 (B + 114) (fun p' y x => bkQ nb p' y x && decide (y < v ∨ (y = v ∧ (x < u ∨ (x = u ∧ p' < p))))) → Ends (ev PP (gsF gv) B d 311 48 [(2, rf (B + 92)), (0, nb 0), (0, nb 1), (0, nb 3), (0, nb 4), (0, (v : Int)), (0, (u : Int)), (0, (p : Int))] [] q3) P := by
            intro c3
            induction c3 with
            | zero =>
              intro p q3 hp l3 g3 qq3
              obtain rfl : p = 4 := by omega
              refine Ends.eq (b311_48 (n := n) (by (repeat' first | assumption | refine LX.setF _ _ ?_ (by decide +kernel) | refine LX.setS ?_ rfl | refine LX.setA ?_ (by first | assumption | omega))) (by first | assumption | omega)) ?_
              rw [w_succ (by omega)]
              refine Ends.b3 (fun _ => ihu (u + 1) q3 _ (by omega) (by omega) l3 g3 (qq3.congr (fun p' y x hp' hy hx => ?_))) (fun z => absurd z (by decide))
              congr 1
              rw [decide_eq_decide]
              omega
            | succ c3 ihp =>
              intro p q3 hp l3 g3 qq3
              have hp4 : p < 4 := by omega
              have ql := q_lt (n := n) hp4 hvn.1
              have pn : p * n ≤ 156 := by
                have := Nat.mul_le_mul (show p ≤ 3 by omega) hn
                omega
              refine Ends.eq (b311_48 (n := n) (by (repeat' first | assumption | refine LX.setF _ _ ?_ (by decide +kernel) | refine LX.setS ?_ rfl | refine LX.setA ?_ (by first | assumption | omega))) (by first | assumption | omega)) ?_
              rw [show bop32 104 (p : Int) (n : Int) = ((p * n : Nat) : Int) from mulNN (by omega), addNN (by omega), tn, an1]
              refine Ends.b3 (fun z => by omega) (fun _ => Ends.g ⟨by omega, by omega⟩ ?_)
              rw [w_succ (by omega)]
              refine ihp (p + 1) _ (by omega) (LX.setA (t := 1) l3 (by rw [g3.hk, k114])) (g3.set rfl) ((qq3.put hn hp4 hvn.1 hun.1).congr (fun p' y x hp' hy hx => ?_))
              unfold bkQ
              rw [← Bool.decide_and, ← Bool.decide_and, ← Bool.decide_or, decide_eq_decide]
              omega
          exact qls 4 0 q2 rfl l2 g2 (qq2.congr (fun p y x _ _ _ => by congr 1; rw [decide_eq_decide]; omega))
      refine cls (n + 300 - (nb 0).toNat) (nb 0).toNat q _ (by omega) (Nat.le_refl _) lq gq (qq.congr (fun p y x _ _ _ => ?_))
      unfold bkQ
      rw [← Bool.decide_and, ← Bool.decide_and, decide_eq_decide]
      omega
  refine Ends.eq (b311_0 (n := n) (by (repeat' first | assumption | refine LX.setF _ _ ?_ (by decide +kernel) | refine LX.setS ?_ rfl | refine LX.setA ?_ (by first | assumption | omega))) (by first | assumption | omega)) ?_
  refine Ends.cv l (by decide +kernel) (c_clearQ257 l (by omega) hn) (fun q lq _ _ _ ⟨gq, qq⟩ => ?_)
  refine Ends.eq (b311_4 (n := n) (by (repeat' first | assumption | refine LX.setF _ _ ?_ (by decide +kernel) | refine LX.setS ?_ rfl | refine LX.setA ?_ (by first | assumption | omega))) (by first | assumption | omega)) ?_
  rw [max0J]
  refine rws (n + 300 - (nb 1).toNat) (nb 1).toNat q _ _ (by omega) (Nat.le_refl _) lq gq (qq.congr (fun p y x _ _ _ => ?_))
  unfold bkQ
  rw [← Bool.decide_and]
  exact (decide_eq_false (by omega)).symm
/-- a disc's quarters alone -/
theorem c_disc260 {r : Nat} {cu cv : Int} (l : LX B n h) (hd : 12 ≤ d) (hn : n ≤ 52) (hr : r ≤ 64) (hcu : -200 ≤ cu ∧ cu ≤ 200) (hcv : -200 ≤ cv ∧ cv ≤ 200) :
    Vd (cll PP (ev PP (gsF gv) B) d 260 [(2, rf (B + 92)), (0, cu), (0, cv), (0, (r : Int))] h) (fun h' => Agr (fun c _ => c = B + 114) h h' ∧ Qua n h' (B + 114) (dsQ r cu cv)) := by
  refine Vd.inq (D := 11) hd (Nat.le_of_ble_eq_true rfl) rfl (fun d hd P K => ?_)
  refine Ends.eq (b260_0 (n := n) (by (repeat' first | assumption | refine LX.setF _ _ ?_ (by decide +kernel) | refine LX.setS ?_ rfl | refine LX.setA ?_ (by first | assumption | omega))) (by first | assumption | omega)) ?_
  refine Ends.cv l (by decide +kernel) (c_clearQ257 l (by omega) hn) (fun q lq _ _ _ ⟨gq, qq⟩ => ?_)
  refine Ends.eq (b260_4 (n := n) (by (repeat' first | assumption | refine LX.setF _ _ ?_ (by decide +kernel) | refine LX.setS ?_ rfl | refine LX.setA ?_ (by first | assumption | omega))) (by first | assumption | omega)) ?_
  refine Ends.cv lq (by decide +kernel) (c_disc397 lq (by omega) hn hr hcu hcv qq (by omega)) (fun q2 l2 _ _ _ ⟨g2, qq2⟩ => ?_)
  refine Ends.eq (b260_18 (n := n) (by (repeat' first | assumption | refine LX.setF _ _ ?_ (by decide +kernel) | refine LX.setS ?_ rfl | refine LX.setA ?_ (by first | assumption | omega))) (by first | assumption | omega)) ?_
  exact Ends.sm (K _ ⟨gq.tr g2 (fun c k z => z), qq2.congr (fun p y x _ _ _ => Bool.false_or _)⟩)
/-- the numbers of fields -/
def PvC (B : Nat) (h : AH) (m : Nat) (nb : Nat → Int) : Prop := ∀ k, k < m → hv h (B + 97) k = nb k
theorem PvC.agr {W : Nat → Nat → Prop} {m : Nat} {t : AH} (b : PvC B h m nb) (g : Agr W h t) (hW : ∀ k, ¬ W (B + 97) k) : PvC B t m nb := fun k hk => by rw [g.at _ _ (hW k)]; exact b k hk
/-- tools' quarters and solid -/
def tlW (B a : Nat) : Nat → Nat → Prop := fun c _ => c = B + 114 ∨ c = a
theorem c_box252 (l : LX B n h) (hd : 14 ≤ d) (hn0 : 0 < n) (hn : n ≤ 52) (m : TbC B h) (pv : PvC B h 6 nb) (nbb : ∀ k, k < 6 → -200 ≤ nb k ∧ nb k ≤ 200) (sa : SG n h a S) (ha : B + 246 ≤ a) :
    Vd (cll PP (ev PP (gsF gv) B) d 252 [(2, rf (B + 92)), (2, rf a)] h) (fun h' => Agr (tlW B a) h h' ∧ SG n h' a (fun g => S g || prG n (bkQ nb) 2 (nb 2) (nb 5) g)) := by
  refine Vd.inq (D := 13) hd (Nat.le_of_ble_eq_true rfl) rfl (fun d hd P K => ?_)
  refine Ends.eq (b252_0 (n := n) (by (repeat' first | assumption | refine LX.setF _ _ ?_ (by decide +kernel) | refine LX.setS ?_ rfl | refine LX.setA ?_ (by first | assumption | omega))) (by first | assumption | omega)) ?_
  rw [show Int.toNat 0 = 0 from rfl, show Int.toNat 1 = 1 from rfl, show Int.toNat 3 = 3 from rfl, show Int.toNat 4 = 4 from rfl, pv 0 (by decide), pv 1 (by decide), pv 3 (by decide), pv 4 (by decide)]
  refine Ends.cv l (by decide +kernel) (c_square311 l (by omega) hn nbb) (fun q lq _ _ _ ⟨gq, qq⟩ => ?_)
  have mq : TbC B q := m.ext l.2.2 gq.ext (fun c k h1 h2 w => by omega)
  have pq := pv.agr gq (fun k w => by omega)
  refine Ends.eq (b252_28 (n := n) (by (repeat' first | assumption | refine LX.setF _ _ ?_ (by decide +kernel) | refine LX.setS ?_ rfl | refine LX.setA ?_ (by first | assumption | omega))) (by first | assumption | omega)) ?_
  rw [show Int.toNat 2 = 2 from rfl, show Int.toNat 5 = 5 from rfl, pq 2 (by decide), pq 5 (by decide)]
  have n2 := nbb 2 (by decide)
  have n5 := nbb 5 (by decide)
  refine Ends.cv lq (by decide +kernel) (c_unitePrism (ax := 2) lq (by omega) hn0 hn mq (sa.agr gq (fun _ w => by omega)) qq (by omega) (by omega) (Or.inr ha) (by decide) (fr := nb 2) (to := nb 5) (by omega) (by omega)) (fun h3 l3 _ _ _ ⟨f3, s3⟩ => ?_)
  refine Ends.eq (b252_53 (n := n) (by (repeat' first | assumption | refine LX.setF _ _ ?_ (by decide +kernel) | refine LX.setS ?_ rfl | refine LX.setA ?_ (by first | assumption | omega))) (by first | assumption | omega)) ?_
  exact Ends.sm (K _ ⟨(gq.sub (fun c k w => Or.inl w)).tr f3.agr (fun c k w => Or.inr w), s3⟩)
end TOOLQ
