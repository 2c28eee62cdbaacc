/-! L3: what alters the solid as it is (model), one by one -/
section MPUT
variable {gv : Nat → Int} {B n d t : Nat} {h : AH} {S R0 : Nat → Bool} {W : Nat → Nat → Prop}
/-- grain by grain: those of C come to row t -/
theorem mput {E : Nat → AH → Prop} (C : Nat → Bool)
    (step : ∀ i q, i < gN n → LX B n q → Agr W h q → MB B n q t (fun x => R0 x || (decide (x < i) && C x)) → (∀ q', LX B n q' → Agr W h q' → MB B n q' t (fun x => R0 x || (decide (x < i + 1) && C x)) → E (i + 1) q') → E i q)
    (fin : ∀ q, LX B n q → Agr W h q → MB B n q t (fun x => R0 x || C x) → E (gN n) q) (q : AH) (l : LX B n q) (g : Agr W h q) (m : MB B n q t R0) : E 0 q := by
  have key : ∀ (c i : Nat) (q : AH), i + c = gN n → LX B n q → Agr W h q → MB B n q t (fun x => R0 x || (decide (x < i) && C x)) → E i q := by
    intro c
    induction c with
    | zero =>
      intro i q e lq gq mq
      obtain rfl : i = gN n := by omega
      exact fin q lq gq (mq.congr (fun x hx => by show (R0 x || (decide (x < gN n) && C x)) = (R0 x || C x); rw [decide_eq_true hx, Bool.true_and]))
    | succ c ih =>
      intro i q e lq gq mq
      exact step i q (by omega) lq gq mq (fun q' l' g' m' => ih (i + 1) q' (by omega) l' g' m')
  exact key (gN n) 0 q (by omega) l g (m.congr (fun x hx => by show R0 x = (R0 x || (decide (x < 0) && C x)); rw [decide_eq_false (Nat.not_lt_zero x)]; simp))
theorem mput_skip {q : AH} {C : Nat → Bool} {i : Nat} (hC : C i = false) (m : MB B n q t (fun x => R0 x || (decide (x < i) && C x))) : MB B n q t (fun x => R0 x || (decide (x < i + 1) && C x)) := m.congr (fun x hx => by
  show (R0 x || (decide (x < i) && C x)) = (R0 x || (decide (x < i + 1) && C x))
  by_cases e : x = i
  · rw [e, hC, Bool.and_false, Bool.and_false]
  · rw [show decide (x < i + 1) = decide (x < i) from by congr 1; exact propext ⟨fun _ => by omega, fun _ => by omega⟩])
theorem mput_put {q : AH} {C : Nat → Bool} {i : Nat} (hC : C i = true) (m : MB B n q t (fun x => (R0 x || (decide (x < i) && C x)) || decide (x = i))) : MB B n q t (fun x => R0 x || (decide (x < i + 1) && C x)) := m.congr (fun x hx => by
  show ((R0 x || (decide (x < i) && C x)) || decide (x = i)) = (R0 x || (decide (x < i + 1) && C x))
  by_cases e : x = i
  · rw [e, hC, decide_eq_true (Nat.lt_succ_self i), decide_eq_true rfl]; simp
  · rw [show decide (x < i + 1) = decide (x < i) from by congr 1; exact propext ⟨fun _ => by omega, fun _ => by omega⟩, decide_eq_false e, Bool.or_false])
/-- the neighbours among the first k facets -/
def frK (n : Nat) (S : Nat → Bool) (g : Nat) : Nat → Int
  | 0 => 0
  | k + 1 => frK n S g k + if nbS n S k g = true then 1 else 0
theorem frK_4 {g : Nat} : frK n S g 4 = frn n S g := by
  show (((0 + _) + _) + _) + _ = _
  rw [Int.zero_add]
  rfl
theorem frK_b {g : Nat} : ∀ k, 0 ≤ frK n S g k ∧ frK n S g k ≤ (k : Int)
  | 0 => ⟨Int.le_refl 0, Int.le_refl 0⟩
  | k + 1 => by
    have := frK_b (g := g) k
    unfold frK
    split <;> omega
theorem c_friends652 {g : Nat} (l : LX B n h) (hd : 10 ≤ d) (hn : n ≤ 52) (m : TbM B h) (b : MB B n h 11 S) (hg : g < gN n) : Vt 0 (cll PP (ev PP (gsF gv) B) d 652 [(2, rf (B + 149)), (0, (g : Int))] h) (fun v h' => h' = h ∧ v = frn n S g) := by
  have hN := gN_le hn
  refine Vt.inq (D := 9) hd (Nat.le_of_ble_eq_true rfl) rfl (fun d hd Q K => ?_)
  have key : ∀ (c k : Nat) (u4 : AV), k + c = 4 → Ends (ev PP (gsF gv) B d 652 4 [(2, rf (B + 149)), (0, (g : Int)), (0, frK n S g k), (0, (k : Int)), u4] [] h) Q := by
    intro c
    induction c with
    | zero =>
      intro k u4 e
      obtain rfl : k = 4 := by omega
      exact Ends.eq (b652_4 l (by omega)) (Ends.b3 (fun _ => Ends.sm (K _ _ ⟨rfl, frK_4⟩)) (fun w => absurd w (by decide)))
    | succ c ih =>
      intro k u4 e
      have hk : k < 4 := by omega
      obtain ⟨k1, k2⟩ := nbr_is m hn hg hk
      have kb := frK_b (n := n) (S := S) (g := g) k
      refine Ends.eq (b652_4 l (by omega)) (Ends.b3 (fun w => absurd w (by omega)) (fun _ => Ends.g k1 ?_))
      rw [k2, ct2, ct2, ct0, w_succ (by omega)]
      rcases nbr_lt hn hg hk with e1 | ⟨g', e1, hg'⟩
      · rw [e1, if_pos (by decide), if_pos (by decide)]
        refine Ends.g trivial ?_
        have e2 : frK n S g (k + 1) = bop32 96 (frK n S g k) 0 := by
          rw [add32 (by omega) (by omega)]
          show frK n S g k + (if nbS n S k g = true then 1 else 0) = _
          rw [show nbS n S k g = false from by unfold nbS; rw [e1]; rfl]; rfl
        rw [← e2]
        exact ih (k + 1) _ (by omega)
      · obtain ⟨a1, a2⟩ := has_is b (by decide) hn hg'
        rw [e1, if_neg (by omega), if_neg (by omega)]
        have a2' : v669 B n h 11 (g' : Int) = if S g' = true then 1 else 0 := a2
        rw [a2']
        refine Ends.g a1 ?_
        have e2 : frK n S g (k + 1) = bop32 96 (frK n S g k) (if (if S g' = true then (1 : Int) else 0) = 0 then 0 else 1) := by
          rw [add32 (by split <;> omega) (by split <;> omega)]
          show frK n S g k + (if nbS n S k g = true then 1 else 0) = _
          rw [show nbS n S k g = S g' from by unfold nbS; rw [e1, tn, decide_eq_true (Int.natCast_nonneg g'), Bool.true_and]]
          cases S g' <;> rfl
        rw [← e2]
        exact ih (k + 1) _ (by omega)
  refine Ends.eq (b652_0 (n := n) (by (repeat' first | assumption | refine LX.setF _ _ ?_ (by decide +kernel) | refine LX.setS ?_ rfl | refine LX.setA ?_ (by first | assumption | omega))) (by first | assumption | omega)) ?_
  exact key 4 0 _ rfl
end MPUT
