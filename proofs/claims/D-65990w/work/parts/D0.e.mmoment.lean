/-! L3: the model's moments -/
section MMOM
variable {gv : Nat → Int} {B n d : Nat} {h : AH} {is : Nat → Bool} {S : Nat → Nat → Bool} {T : Nat → Bool} {o : Int}
theorem c_moment753 (l : LX B n h) (hd : 16 ≤ d) (hn0 : 0 < n) (hn : n ≤ 52) (m : TbM B h) (bd : BdM B n h is S) {a b : Int} :
    Vt 1 (cll PP (ev PP (gsF gv) B) d 753 [(2, rf (B + 149)), (0, o), (0, a), (0, b)] h) (fun x h' => (thS is o = false ∧ MdA B h 1 x h') ∨ (thS is o = true ∧ ¬ ((0 ≤ a ∧ a ≤ 2) ∧ 0 ≤ b ∧ b ≤ 2) ∧ MdA B h 2 x h') ∨ (thS is o = true ∧ ((0 ≤ a ∧ a ≤ 2) ∧ 0 ≤ b ∧ b ≤ 2) ∧ x = ((momS n (S (rwS o)) a.toNat b.toNat : Nat) : Int) ∧ Agr (fun c _ => c = B + 189) (hset h (B + 149) 0 0) h')) := by
  have hb0 := l.2.2
  refine Vt.inq (D := 15) hd (Nat.le_of_ble_eq_true rfl) rfl (fun d hd P K => ?_)
  refine Ends.eq (b753_0 (n := n) (by (repeat' first | assumption | refine LX.setF _ _ ?_ (by decide +kernel) | refine LX.setS ?_ rfl | refine LX.setA ?_ (by first | assumption | omega))) (by first | assumption | omega)) ?_
  obtain ⟨v1, v2⟩ := v765_is (o := o) (fun i hi => (bd.1 i hi).1)
  refine Ends.g v1 ?_
  rw [v2, ct0, ct2, ct4, ct2, ct5]
  have bad : ∀ (c : Nat), c ≠ 0 → P ((0, (1, 0)), hset h (B + 149) 0 (c : Int)) → Ends (ev PP (gsF gv) B d 753 39 [(2, rf (B + 149)), (0, o), (0, a), (0, b), (9, 0), (9, 0), (9, 0), (9, 0), (9, 0), (9, 0), (9, 0), (9, 0)] [(0, 1)] (hset h (B + 149) 0 (c : Int))) P := fun c hc q => by
    have l2 : LX B n (hset h (B + 149) 0 (c : Int)) := LX.setF 149 0 l (by decide +kernel)
    refine Ends.eq (b753_39 (n := n) (by (repeat' first | assumption | refine LX.setF _ _ ?_ (by decide +kernel) | refine LX.setS ?_ rfl | refine LX.setA ?_ (by first | assumption | omega))) (by first | assumption | omega)) ?_
    exact Ends.b0 (fun z => absurd z (by decide)) (fun _ => Ends.sm q)
  cases ho : thS is o
  · rw [if_neg (show ¬ (if false = true then (0 : Int) else 1) = 0 by decide)]
    exact Ends.mbad l (by omega) (c := 1) (by decide) rfl (bad 1 (by decide) (K _ _ (Or.inl ⟨ho, rfl, rfl⟩)))
  rw [if_pos (show (if true = true then (0 : Int) else 1) = 0 by decide)]
  by_cases hp : (0 ≤ a ∧ a ≤ 2) ∧ 0 ≤ b ∧ b ≤ 2
  rotate_left
  · rw [show (if a < 0 then (2 : Int) else if 2 < a then 2 else if b < 0 then 2 else if 2 < b then 2 else 0) = ((2 : Nat) : Int) from by
      by_cases w1 : a < 0
      · rw [if_pos w1]; rfl
      rw [if_neg w1]
      by_cases w2 : 2 < a
      · rw [if_pos w2]; rfl
      rw [if_neg w2]
      by_cases w3 : b < 0
      · rw [if_pos w3]; rfl
      rw [if_neg w3, if_pos (by omega)]
      rfl]
    exact Ends.mbad l (by omega) (c := 2) (by decide) rfl (bad 2 (by decide) (K _ _ (Or.inr (Or.inl ⟨ho, hp, rfl, rfl⟩))))
  rw [if_neg (show ¬ a < 0 by omega), if_neg (show ¬ 2 < a by omega), if_neg (show ¬ b < 0 by omega), if_neg (show ¬ 2 < b by omega)]
  refine Ends.mok l (by omega) rfl ?_
  have l2 : LX B n (hset h (B + 149) 0 0) := LX.setF 149 0 l (by decide +kernel)
  obtain ⟨s1, s2⟩ := (bd.fset 0 0).sol ho
  have m2 : TbM B (hset h (B + 149) 0 0) := m.agr (Agr.rf.set (W := fun c k => c = B + 149 ∧ k = 0) ⟨rfl, rfl⟩) (fun c k a1 a2 a3 w => by omega)
  have K2 := fun x q e g => K x q (Or.inr (Or.inr ⟨ho, hp, e, g⟩))
  clear K bad
  have vr := v806_is ho
  generalize hset h (B + 149) 0 0 = h2 at *
  generalize S (rwS o) = T at *
  generalize rwS o = ro at *
  obtain ⟨a, rfl⟩ : ∃ k : Nat, a = (k : Int) := ⟨a.toNat, by omega⟩
  obtain ⟨b, rfl⟩ : ∃ k : Nat, b = (k : Int) := ⟨b.toNat, by omega⟩
  have ha : a < 3 := by omega
  have hb : b < 3 := by omega
  rw [tn, tn] at K2
  have gle := gN_le2 hn
  refine Ends.eq (b753_39 (n := n) (by (repeat' first | assumption | refine LX.setF _ _ ?_ (by decide +kernel) | refine LX.setS ?_ rfl | refine LX.setA ?_ (by first | assumption | omega))) (by first | assumption | omega)) ?_
  refine Ends.b0 (fun _ => ?_) (fun z => absurd rfl z)
  have lp : ∀ (c k : Nat) (q : AH) (u5 u7 u8 u9 u10 u11 : AV), ¬ u5.1 = 1 → k + c = gN n → LX B n q → Agr (fun c _ => c = B + 189) h2 q → Ends (ev PP (gsF gv) B d 753 50 [(2, rf (B + 149)), (0, o), (0, (a : Int)), (0, (b : Int)), (1, ((sumN (momW n T a b) k : Nat) : Int)), u5, (0, (k : Int)), u7, u8, u9, u10, u11] [] q) P := by
    intro c
    induction c with
    | zero =>
      intro k q u5 u7 u8 u9 u10 u11 k5 hk lq gq
      obtain rfl : k = gN n := by omega
      refine Ends.eq (b753_50 lq (by omega)) ?_
      exact Ends.b3 (fun _ => Ends.sm (K2 _ _ rfl gq)) (fun z => absurd z (by omega))
    | succ c ih =>
      intro k q u5 u7 u8 u9 u10 u11 k5 hk lq gq
      have hk4 : k < gN n := by omega
      have le1 := momS_le (T := T) hn ha hb (k := k + 1) (by omega)
      have up : sumN (momW n T a b) (k + 1) = sumN (momW n T a b) k + momW n T a b k := rfl
      have sq : MB B n q ro T := s1.agr gq (fun j hj w => by omega)
      obtain ⟨b1, b2⟩ := has_is sq (by omega) hn hk4
      have step : ∀ (x : Int) (q : AH) (u5 u7 u8 u9 u10 u11 : AV), ¬ u5.1 = 1 → LX B n q → Agr (fun c _ => c = B + 189) h2 q → x = ((sumN (momW n T a b) (k + 1) : Nat) : Int) → Ends (ev PP (gsF gv) B d 753 176 [(2, rf (B + 149)), (0, o), (0, (a : Int)), (0, (b : Int)), (1, x), u5, (0, (k : Int)), u7, u8, u9, u10, u11] [] q) P := fun x q u5 u7 u8 u9 u10 u11 k5 lq gq ex => by
        refine Ends.eq (b753_176 k5 lq (by omega)) ?_
        rw [w_succ (by omega), ex]
        exact ih (k + 1) q u5 u7 u8 u9 u10 u11 k5 (by omega) lq gq
      refine Ends.eq (b753_50 lq (by omega)) ?_
      rw [vr, b2]
      refine Ends.b3 (fun z => absurd z (by omega)) (fun _ => Ends.g b1 ?_)
      cases hT : T k
      · rw [if_neg Bool.false_ne_true]
        refine Ends.b1 (fun z => absurd rfl z) (fun _ => step _ q _ _ _ _ _ _ k5 lq gq ?_)
        unfold momW at up
        rw [hT, if_neg Bool.false_ne_true] at up
        unfold momW
        rw [up]
        rfl
      · rw [if_pos rfl]
        refine Ends.b1 (fun _ => ?_) (fun z => absurd z (by decide))
        refine Ends.cv lq (by decide +kernel) (c_corners584 lq (by omega) hn (m2.agr gq (fun c k a1 a2 a3 w => by omega)) hk4) (fun q3 l3 _ _ _ ⟨g3, cs⟩ => ?_)
        have G3 := gq.tr g3 (fun c k w => w)
        have mW : momW n T a b k = moT (kaT (gSo k) a) (kaT (gSo k) b) (kkT (gSo k) a b) (gC n k a) (gC n k b) := by
          unfold momW
          rw [hT, if_pos rfl]
        have cv := moT_cv (n := n) (g := k) (a := a) (b := b)
        rw [← mW] at cv
        have gca := gC_le (a := a) hn hk4
        have gcb := gC_le (a := b) hn hk4
        obtain ⟨_, _, _, _, ht⟩ := g_lt hk4
        have ca : ∀ j, j < 4 → cv2 n k j a ≤ 106 := fun j hj => by
          have := crn_le ht hj ha
          unfold cv2
          omega
        have cb : ∀ j, j < 4 → cv2 n k j b ≤ 106 := fun j hj => by
          have := crn_le ht hj hb
          unfold cv2
          omega
        have cp : ∀ j, j < 4 → cv2 n k j a * cv2 n k j b ≤ 11236 := fun j hj => Nat.mul_le_mul (ca j hj) (cb j hj)
        have a0 := ca 0 (by decide)
        have a1 := ca 1 (by decide)
        have a2 := ca 2 (by decide)
        have a3 := ca 3 (by decide)
        have b0 := cb 0 (by decide)
        have b1' := cb 1 (by decide)
        have b2' := cb 2 (by decide)
        have b3 := cb 3 (by decide)
        have p0 := cp 0 (by decide)
        have p1 := cp 1 (by decide)
        have p2 := cp 2 (by decide)
        have p3 := cp 3 (by decide)
        have le0 := momS_le (T := T) hn ha hb (k := k) (by omega)
        have one : ∀ (j x4 x7 x9 : Nat) (u5 u8 u10 : AV), j < 4 → x4 ≤ 800000000000 → x7 ≤ 1000 → x9 ≤ 1000 → Ends (ev PP (gsF gv) B d 753 90 [(2, rf (B + 149)), (0, o), (0, (a : Int)), (0, (b : Int)), (1, ((x4 + cv2 n k j a * cv2 n k j b : Nat) : Int)), (9, 0), (0, (k : Int)), (1, ((x7 + cv2 n k j a : Nat) : Int)), (9, 0), (1, ((x9 + cv2 n k j b : Nat) : Int)), (9, 0), (0, ((j + 1 : Nat) : Int))] [] q3) P → Ends (ev PP (gsF gv) B d 753 90 [(2, rf (B + 149)), (0, o), (0, (a : Int)), (0, (b : Int)), (1, (x4 : Int)), u5, (0, (k : Int)), (1, (x7 : Int)), u8, (1, (x9 : Int)), u10, (0, (j : Int))] [] q3) P := fun j x4 x7 x9 u5 u8 u10 hj e4 e7 e9 nx => by
          refine Ends.eq (b753_90 l3 (by omega)) ?_
          have h1 := ca j hj
          have h2 := cb j hj
          have h3 := cp j hj
          rw [show bop32 96 (bop32 104 (3 : Int) (j : Int)) (a : Int) = ((3 * j + a : Nat) : Int) from by rw [show bop32 104 (3 : Int) (j : Int) = ((3 * j : Nat) : Int) from mulNN (x := 3) (by omega)]; exact addNN (by omega), show bop32 96 (bop32 104 (3 : Int) (j : Int)) (b : Int) = ((3 * j + b : Nat) : Int) from by rw [show bop32 104 (3 : Int) (j : Int) = ((3 * j : Nat) : Int) from mulNN (x := 3) (by omega)]; exact addNN (by omega), tn, tn, cs j a hj ha, cs j b hj hb, show uop 2 ((cv2 n k j a : Nat) : Int) = ((cv2 n k j a : Nat) : Int) from rfl, show uop 2 ((cv2 n k j b : Nat) : Int) = ((cv2 n k j b : Nat) : Int) from rfl, m64N (x := cv2 n k j a) (by omega), a64N (x := x4) (by omega), a64N (x := x7) (by omega), a64N (x := x9) (by omega), w_succ (by omega)]
          exact Ends.b3 (fun w => absurd w (by omega)) (fun _ => Ends.g ⟨by omega, by omega⟩ (Ends.g ⟨by omega, by omega⟩ nx))
        refine Ends.eq (b753_81 l3 (by omega)) ?_
        refine one 0 _ 0 0 _ _ _ (by decide) (by omega) (by decide) (by decide) ?_
        refine one 1 _ _ _ _ _ _ (by decide) (by omega) (by omega) (by omega) ?_
        refine one 2 _ _ _ _ _ _ (by decide) (by omega) (by omega) (by omega) ?_
        refine one 3 _ _ _ _ _ _ (by decide) (by omega) (by omega) (by omega) ?_
        refine Ends.eq (b753_90 l3 (by omega)) ?_
        refine Ends.b3 (fun _ => ?_) (fun w => absurd w (by decide))
        have pp : (0 + cv2 n k 0 a + cv2 n k 1 a + cv2 n k 2 a + cv2 n k 3 a) * (0 + cv2 n k 0 b + cv2 n k 1 b + cv2 n k 2 b + cv2 n k 3 b) ≤ 424 * 424 := Nat.mul_le_mul (by omega) (by omega)
        rw [m64N (by omega), a64N (by omega)]
        refine step _ q3 _ _ _ _ _ _ (by decide) l3 G3 (congrArg (fun k : Nat => (k : Int)) ?_)
        rw [up, ← cv, Nat.zero_add, Nat.zero_add]
        omega
  exact lp (gN n) 0 h2 _ _ _ _ _ _ (by decide) (Nat.zero_add _) l2 Agr.rf
end MMOM
