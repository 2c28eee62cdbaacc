/-! L3: the tape is fed -/
section FEED
variable {gv : Nat → Int} {B n d : Nat} {h : AH}
/-- byte j of v -/
def fdB (v : Int) (j : Nat) : Int := uop 4 (bop32 122 v ((24 - 8 * j : Nat) : Int))
theorem fdB_r {v : Int} {j : Nat} : -128 ≤ fdB v j ∧ fdB v j < 128 := by
  show -128 ≤ (bop32 122 v ((24 - 8 * j : Nat) : Int)).bmod 256 ∧ (bop32 122 v ((24 - 8 * j : Nat) : Int)).bmod 256 < 128
  rw [Int.bmod_def]
  split <;> omega
theorem fdB_m {v : Int} {j : Nat} : bop32 126 (bop32 122 v ((24 - 8 * j : Nat) : Int)) 255 = fdB v j % 256 := by
  rw [and255]
  show _ = (bop32 122 v ((24 - 8 * j : Nat) : Int)).bmod 256 % 256
  rw [Int.bmod_def]
  split <;> omega
theorem c_four35 (l : LX B n h) (hd : 10 ≤ d) {p : Nat} {v : Int} (h15 : hv h (B + 0) 15 = (p : Int)) (hp : p + 4 ≤ 8192) :
    Vd (cll PP (ev PP (gsF gv) B) d 35 [(2, rf (B + 0)), (0, v)] h) (fun h' => Agr (fun c k => c = B + 26 ∨ (c = B + 0 ∧ k = 15)) h h' ∧ hv h' (B + 0) 15 = ((p + 4 : Nat) : Int) ∧ (∀ i, i < p ∨ p + 4 ≤ i → hv h' (B + 26) i = hv h (B + 26) i) ∧ ∀ j, j < 4 → hv h' (B + 26) (p + j) = fdB v j) := by
  refine Vd.into (D := 9) hd (Nat.le_of_ble_eq_true rfl) rfl (fun d hd => ?_)
  refine Ends.eq (b35_0 (n := n) (by (repeat' first | assumption | refine LX.setF _ _ ?_ (by decide +kernel) | refine LX.setS ?_ rfl | refine LX.setA ?_ (by first | assumption | omega))) (by first | assumption | omega)) ?_
  have key : ∀ (r j : Nat) (q : AH), j + r = 4 → LX B n q → Agr (fun c k => c = B + 26 ∨ (c = B + 0 ∧ k = 15)) h q → hv q (B + 0) 15 = ((p + j : Nat) : Int) → (∀ i, i < p ∨ p + 4 ≤ i → hv q (B + 26) i = hv h (B + 26) i) → (∀ i, i < j → hv q (B + 26) (p + i) = fdB v i) → Ends (ev PP (gsF gv) B d 35 3 [(2, rf (B + 0)), (0, v), (0, 24 - 8 * (j : Int))] [] q) (fun r => ∃ h', r = ((0, (9, 0)), h') ∧ Agr (fun c k => c = B + 26 ∨ (c = B + 0 ∧ k = 15)) h h' ∧ hv h' (B + 0) 15 = ((p + 4 : Nat) : Int) ∧ (∀ i, i < p ∨ p + 4 ≤ i → hv h' (B + 26) i = hv h (B + 26) i) ∧ ∀ j, j < 4 → hv h' (B + 26) (p + j) = fdB v j) := by
    intro r
    induction r with
    | zero =>
      intro j q hj lq g e15 e0 e1
      obtain rfl : j = 4 := by omega
      refine Ends.eq (b35_3 (n := n) (by (repeat' first | assumption | refine LX.setF _ _ ?_ (by decide +kernel) | refine LX.setS ?_ rfl | refine LX.setA ?_ (by first | assumption | omega))) (by first | assumption | omega)) ?_
      exact Ends.b2 (fun _ => Ends.sm ⟨_, rfl, g, e15, e0, e1⟩) (fun z => absurd z (by decide))
    | succ r ih =>
      intro j q hj lq g e15 e0 e1
      refine Ends.eq (b35_3 (n := n) (by (repeat' first | assumption | refine LX.setF _ _ ?_ (by decide +kernel) | refine LX.setS ?_ rfl | refine LX.setA ?_ (by first | assumption | omega))) (by first | assumption | omega)) ?_
      rw [e15, tn, b96_1 (by omega), show w32 (24 - 8 * (j : Int) + -8) = 24 - 8 * ((j + 1 : Nat) : Int) from (w32_id ⟨by omega, by omega⟩).trans (by omega), show (24 : Int) - 8 * (j : Int) = ((24 - 8 * j : Nat) : Int) by omega, show uop 4 (bop32 122 v ((24 - 8 * j : Nat) : Int)) = fdB v j from rfl, an2 fdB_r]
      refine Ends.b2 (fun z => by omega) (fun _ => Ends.g ⟨by omega, by omega⟩ (ih (j + 1) _ (by omega) ?_ ((g.set (Or.inl rfl)).set (Or.inr ⟨rfl, rfl⟩)) (hv_set_at ..) (fun i hi => ?_) (fun i hi => ?_)))
      · exact LX.setF 0 15 (LX.setS lq rfl) (by decide +kernel)
      · rw [hv_set_ne (by omega), hv_set_ne (by omega)]; exact e0 i hi
      · rw [hv_set_ne (by omega)]
        by_cases e : i = j
        · rw [e]; exact hv_set_at ..
        · rw [hv_set_ne (by omega)]; exact e1 i (by omega)
  exact key 4 0 h rfl l Agr.rf h15 (fun _ _ => rfl) (fun i hi => absurd hi (by omega))
theorem c_four648 (l : LX B n h) (hd : 10 ≤ d) {p : Nat} {v : Int} (h15 : hv h (B + 149) 2 = (p : Int)) (hp : p + 4 ≤ 8192) :
    Vd (cll PP (ev PP (gsF gv) B) d 648 [(2, rf (B + 149)), (0, v)] h) (fun h' => Agr (fun c k => c = B + 150 ∨ (c = B + 149 ∧ k = 2)) h h' ∧ hv h' (B + 149) 2 = ((p + 4 : Nat) : Int) ∧ (∀ i, i < p ∨ p + 4 ≤ i → hv h' (B + 150) i = hv h (B + 150) i) ∧ ∀ j, j < 4 → hv h' (B + 150) (p + j) = fdB v j % 256) := by
  refine Vd.into (D := 9) hd (Nat.le_of_ble_eq_true rfl) rfl (fun d hd => ?_)
  refine Ends.eq (b648_0 (n := n) (by (repeat' first | assumption | refine LX.setF _ _ ?_ (by decide +kernel) | refine LX.setS ?_ rfl | refine LX.setA ?_ (by first | assumption | omega))) (by first | assumption | omega)) ?_
  have key : ∀ (r j : Nat) (q : AH), j + r = 4 → LX B n q → Agr (fun c k => c = B + 150 ∨ (c = B + 149 ∧ k = 2)) h q → hv q (B + 149) 2 = ((p + j : Nat) : Int) → (∀ i, i < p ∨ p + 4 ≤ i → hv q (B + 150) i = hv h (B + 150) i) → (∀ i, i < j → hv q (B + 150) (p + i) = fdB v i % 256) → Ends (ev PP (gsF gv) B d 648 3 [(2, rf (B + 149)), (0, v), (0, 24 - 8 * (j : Int))] [] q) (fun r => ∃ h', r = ((0, (9, 0)), h') ∧ Agr (fun c k => c = B + 150 ∨ (c = B + 149 ∧ k = 2)) h h' ∧ hv h' (B + 149) 2 = ((p + 4 : Nat) : Int) ∧ (∀ i, i < p ∨ p + 4 ≤ i → hv h' (B + 150) i = hv h (B + 150) i) ∧ ∀ j, j < 4 → hv h' (B + 150) (p + j) = fdB v j % 256) := by
    intro r
    induction r with
    | zero =>
      intro j q hj lq g e15 e0 e1
      obtain rfl : j = 4 := by omega
      refine Ends.eq (b648_3 (n := n) (by (repeat' first | assumption | refine LX.setF _ _ ?_ (by decide +kernel) | refine LX.setS ?_ rfl | refine LX.setA ?_ (by first | assumption | omega))) (by first | assumption | omega)) ?_
      exact Ends.b2 (fun _ => Ends.sm ⟨_, rfl, g, e15, e0, e1⟩) (fun z => absurd z (by decide))
    | succ r ih =>
      intro j q hj lq g e15 e0 e1
      refine Ends.eq (b648_3 (n := n) (by (repeat' first | assumption | refine LX.setF _ _ ?_ (by decide +kernel) | refine LX.setS ?_ rfl | refine LX.setA ?_ (by first | assumption | omega))) (by first | assumption | omega)) ?_
      rw [e15, tn, b96_1 (by omega), show w32 (24 - 8 * (j : Int) + -8) = 24 - 8 * ((j + 1 : Nat) : Int) from (w32_id ⟨by omega, by omega⟩).trans (by omega), show (24 : Int) - 8 * (j : Int) = ((24 - 8 * j : Nat) : Int) by omega, show anar 0 (bop32 126 (bop32 122 v ((24 - 8 * j : Nat) : Int)) 255) = fdB v j % 256 from (an0 _).trans fdB_m]
      refine Ends.b2 (fun z => by omega) (fun _ => Ends.g ⟨by omega, by omega⟩ (ih (j + 1) _ (by omega) ?_ ((g.set (Or.inl rfl)).set (Or.inr ⟨rfl, rfl⟩)) (hv_set_at ..) (fun i hi => ?_) (fun i hi => ?_)))
      · exact LX.setF 149 2 (LX.setS lq rfl) (by decide +kernel)
      · rw [hv_set_ne (by omega), hv_set_ne (by omega)]; exact e0 i hi
      · rw [hv_set_ne (by omega)]
        by_cases e : i = j
        · rw [e]; exact hv_set_at ..
        · rw [hv_set_ne (by omega)]; exact e1 i (by omega)
  exact key 4 0 h rfl l Agr.rf h15 (fun _ _ => rfl) (fun i hi => absurd hi (by omega))
/-- the five numbers' bytes -/
def fd5 (x1 x2 x3 x4 x5 : Int) (i : Nat) : Int := fdB (if i < 4 then x1 else if i < 8 then x2 else if i < 12 then x3 else if i < 16 then x4 else x5) (i % 4)
theorem c_feed32 (l : LX B n h) (hd : 12 ≤ d) {p : Nat} {x1 x2 x3 x4 x5 : Int} (h15 : hv h (B + 0) 15 = (p : Int)) (hp : p ≤ 8192) :
    Vtx 0 (cll PP (ev PP (gsF gv) B) d 32 [(2, rf (B + 0)), (0, x1), (0, x2), (0, x3), (0, x4), (0, x5)] h) (fun v h' => p + 20 ≤ 8192 ∧ v = ((p + 20 : Nat) : Int) ∧ Agr (fun c k => c = B + 26 ∨ (c = B + 0 ∧ k = 15)) h h' ∧ hv h' (B + 0) 15 = ((p + 20 : Nat) : Int) ∧ (∀ i, i < p → hv h' (B + 26) i = hv h (B + 26) i) ∧ ∀ i, i < 20 → hv h' (B + 26) (p + i) = fd5 x1 x2 x3 x4 x5 i) (fun x h' => 8192 < p + 20 ∧ ThX 28 h x h') := by
  refine Vtx.into (D := 11) hd (Nat.le_of_ble_eq_true rfl) rfl (fun d hd => ?_)
  refine Ends.eq (b32_0 (n := n) (by (repeat' first | assumption | refine LX.setF _ _ ?_ (by decide +kernel) | refine LX.setS ?_ rfl | refine LX.setA ?_ (by first | assumption | omega))) (by first | assumption | omega)) ?_
  rw [h15, show bop32 96 (p : Int) 20 = ((p + 20 : Nat) : Int) from addNN (y := 20) (by omega), tst4]
  by_cases big : 8192 < p + 20
  · rw [decide_eq_true (show (8192 : Int) < ((p + 20 : Nat) : Int) by omega)]
    refine Ends.cvx l (by decide +kernel) (c_state93 l (by omega)) (fun h2 l2 _ _ ⟨z, _⟩ => absurd rfl z) (fun x h2 l2 _ _ ⟨_, w⟩ => ?_)
    exact Ends.th w.c rfl (Or.inr ⟨_, _, rfl, big, w⟩)
  rw [decide_eq_false (show ¬ (8192 : Int) < ((p + 20 : Nat) : Int) by omega)]
  refine Ends.cvx l (by decide +kernel) (c_state93 l (by omega)) (fun h1 l1 _ _ ⟨_, e1⟩ => ?_) (fun x h2 l2 _ _ ⟨z, _⟩ => absurd z (by decide))
  have q1 : hv h1 (B + 0) 15 = (p : Int) := by rw [e1]; exact h15
  refine Ends.eq (b32_21 (n := n) (by (repeat' first | assumption | refine LX.setF _ _ ?_ (by decide +kernel) | refine LX.setS ?_ rfl | refine LX.setA ?_ (by first | assumption | omega))) (by first | assumption | omega)) ?_
  refine Ends.cv l1 (by decide +kernel) (c_four35 l1 (by omega) (p := p) q1 (by omega)) (fun h2 l2 _ _ _ ⟨g2, q2, o2, w2⟩ => ?_)
  refine Ends.eq (b32_26 (n := n) (by (repeat' first | assumption | refine LX.setF _ _ ?_ (by decide +kernel) | refine LX.setS ?_ rfl | refine LX.setA ?_ (by first | assumption | omega))) (by first | assumption | omega)) ?_
  refine Ends.cv l2 (by decide +kernel) (c_four35 l2 (by omega) (p := p + 4) q2 (by omega)) (fun h3 l3 _ _ _ ⟨g3, q3, o3, w3⟩ => ?_)
  rw [show p + 4 + 4 = p + 8 from rfl] at q3 o3
  refine Ends.eq (b32_31 (n := n) (by (repeat' first | assumption | refine LX.setF _ _ ?_ (by decide +kernel) | refine LX.setS ?_ rfl | refine LX.setA ?_ (by first | assumption | omega))) (by first | assumption | omega)) ?_
  refine Ends.cv l3 (by decide +kernel) (c_four35 l3 (by omega) (p := p + 8) q3 (by omega)) (fun h4 l4 _ _ _ ⟨g4, q4, o4, w4⟩ => ?_)
  rw [show p + 8 + 4 = p + 12 from rfl] at q4 o4
  refine Ends.eq (b32_36 (n := n) (by (repeat' first | assumption | refine LX.setF _ _ ?_ (by decide +kernel) | refine LX.setS ?_ rfl | refine LX.setA ?_ (by first | assumption | omega))) (by first | assumption | omega)) ?_
  refine Ends.cv l4 (by decide +kernel) (c_four35 l4 (by omega) (p := p + 12) q4 (by omega)) (fun h5 l5 _ _ _ ⟨g5, q5, o5, w5⟩ => ?_)
  rw [show p + 12 + 4 = p + 16 from rfl] at q5 o5
  refine Ends.eq (b32_42 (n := n) (by (repeat' first | assumption | refine LX.setF _ _ ?_ (by decide +kernel) | refine LX.setS ?_ rfl | refine LX.setA ?_ (by first | assumption | omega))) (by first | assumption | omega)) ?_
  refine Ends.cv l5 (by decide +kernel) (c_four35 l5 (by omega) (p := p + 16) q5 (by omega)) (fun h6 l6 _ _ _ ⟨g6, q6, o6, w6⟩ => ?_)
  rw [show p + 16 + 4 = p + 20 from rfl] at q6 o6
  refine Ends.eq (b32_48 (n := n) (by (repeat' first | assumption | refine LX.setF _ _ ?_ (by decide +kernel) | refine LX.setS ?_ rfl | refine LX.setA ?_ (by first | assumption | omega))) (by first | assumption | omega)) ?_
  have G : Agr (fun c k => c = B + 26 ∨ (c = B + 0 ∧ k = 15)) h h6 := by
    rw [← e1]
    exact (((g2.tr g3 (fun _ _ z => z)).tr g4 (fun _ _ z => z)).tr g5 (fun _ _ z => z)).tr g6 (fun _ _ z => z)
  rw [q6]
  refine Ends.sm (Or.inl ⟨_, _, rfl, by omega, rfl, G, q6, fun i hi => ?_, fun i hi => ?_⟩)
  · rw [o6 _ (by omega), o5 _ (by omega), o4 _ (by omega), o3 _ (by omega), o2 _ (by omega), e1]
  · skip
    have cases : ∃ a r, a < 5 ∧ r < 4 ∧ i = 4 * a + r := ⟨i / 4, i % 4, by omega, by omega, by omega⟩
    obtain ⟨a, r, ha, hr, rfl⟩ := cases
    have hm : (4 * a + r) % 4 = r := by omega
    unfold fd5
    rw [hm]
    have : a = 0 ∨ a = 1 ∨ a = 2 ∨ a = 3 ∨ a = 4 := by omega
    rcases this with rfl | rfl | rfl | rfl | rfl
    · rw [if_pos (by omega), o6 _ (by omega), o5 _ (by omega), o4 _ (by omega), o3 _ (by omega), ← w2 r hr]; congr 1; omega
    · rw [if_neg (by omega), if_pos (by omega), o6 _ (by omega), o5 _ (by omega), o4 _ (by omega), ← w3 r hr]; congr 1; omega
    · rw [if_neg (by omega), if_neg (by omega), if_pos (by omega), o6 _ (by omega), o5 _ (by omega), ← w4 r hr]; congr 1; omega
    · rw [if_neg (by omega), if_neg (by omega), if_neg (by omega), if_pos (by omega), o6 _ (by omega), ← w5 r hr]; congr 1; omega
    · rw [if_neg (by omega), if_neg (by omega), if_neg (by omega), if_neg (by omega), ← w6 r hr]; congr 1; omega
theorem c_feed626 (l : LX B n h) (hd : 12 ≤ d) {p : Nat} {x1 x2 x3 x4 x5 : Int} (h15 : hv h (B + 149) 2 = (p : Int)) (hp : p ≤ 8192) :
    Vt 0 (cll PP (ev PP (gsF gv) B) d 626 [(2, rf (B + 149)), (0, x1), (0, x2), (0, x3), (0, x4), (0, x5)] h) (fun v h' => (8192 < p + 20 ∧ v = 0 ∧ h' = hset h (B + 149) 0 1) ∨ (p + 20 ≤ 8192 ∧ v = ((p + 20 : Nat) : Int) ∧ hv h' (B + 149) 0 = 0 ∧ Agr (fun c k => c = B + 150 ∨ (c = B + 149 ∧ (k = 0 ∨ k = 2))) h h' ∧ hv h' (B + 149) 2 = ((p + 20 : Nat) : Int) ∧ (∀ i, i < p → hv h' (B + 150) i = hv h (B + 150) i) ∧ ∀ i, i < 20 → hv h' (B + 150) (p + i) = fd5 x1 x2 x3 x4 x5 i % 256)) := by
  refine Vt.into (D := 11) hd (Nat.le_of_ble_eq_true rfl) rfl (fun d hd => ?_)
  refine Ends.eq (b626_0 (n := n) (by (repeat' first | assumption | refine LX.setF _ _ ?_ (by decide +kernel) | refine LX.setS ?_ rfl | refine LX.setA ?_ (by first | assumption | omega))) (by first | assumption | omega)) ?_
  rw [h15, show bop32 96 (p : Int) 20 = ((p + 20 : Nat) : Int) from addNN (y := 20) (by omega), tst5]
  by_cases big : 8192 < p + 20
  · rw [decide_eq_true (show (8192 : Int) < ((p + 20 : Nat) : Int) by omega)]
    refine Ends.ct l (by decide +kernel) (by decide) (c_fails l (by omega) (x := 1)) (fun y h1 l1 _ _ _ ⟨ey, e1⟩ => ?_)
    rw [if_pos (by decide)] at ey
    rw [ey]
    refine Ends.eq (b626_22 (n := n) (by (repeat' first | assumption | refine LX.setF _ _ ?_ (by decide +kernel) | refine LX.setS ?_ rfl | refine LX.setA ?_ (by first | assumption | omega))) (by first | assumption | omega)) ?_
    exact Ends.b0 (fun z => absurd z (by decide)) (fun _ => Ends.sm ⟨_, _, rfl, Or.inl ⟨big, rfl, e1⟩⟩)
  rw [decide_eq_false (show ¬ (8192 : Int) < ((p + 20 : Nat) : Int) by omega)]
  refine Ends.ct l (by decide +kernel) (by decide) (c_fails l (by omega) (x := 0)) (fun y h1 l1 _ _ _ ⟨ey, e1⟩ => ?_)
  rw [if_neg (by decide)] at ey
  rw [ey]
  have q1 : hv h1 (B + 149) 2 = (p : Int) := by rw [e1, hv_set_ne (by omega)]; exact h15
  have z1 : hv h1 (B + 149) 0 = 0 := by rw [e1]; exact hv_set_at ..
  have g1 : Agr (fun c k => c = B + 150 ∨ (c = B + 149 ∧ (k = 0 ∨ k = 2))) h h1 := by rw [e1]; exact Agr.rf.set (Or.inr ⟨rfl, Or.inl rfl⟩)
  refine Ends.eq (b626_22 (n := n) (by (repeat' first | assumption | refine LX.setF _ _ ?_ (by decide +kernel) | refine LX.setS ?_ rfl | refine LX.setA ?_ (by first | assumption | omega))) (by first | assumption | omega)) ?_
  refine Ends.b0 (fun _ => ?_) (fun z => absurd rfl z)
  refine Ends.cv l1 (by decide +kernel) (c_four648 l1 (by omega) (p := p) q1 (by omega)) (fun h2 l2 _ _ _ ⟨g2, q2, o2, w2⟩ => ?_)
  refine Ends.eq (b626_32 (n := n) (by (repeat' first | assumption | refine LX.setF _ _ ?_ (by decide +kernel) | refine LX.setS ?_ rfl | refine LX.setA ?_ (by first | assumption | omega))) (by first | assumption | omega)) ?_
  refine Ends.cv l2 (by decide +kernel) (c_four648 l2 (by omega) (p := p + 4) q2 (by omega)) (fun h3 l3 _ _ _ ⟨g3, q3, o3, w3⟩ => ?_)
  rw [show p + 4 + 4 = p + 8 from rfl] at q3 o3
  refine Ends.eq (b626_37 (n := n) (by (repeat' first | assumption | refine LX.setF _ _ ?_ (by decide +kernel) | refine LX.setS ?_ rfl | refine LX.setA ?_ (by first | assumption | omega))) (by first | assumption | omega)) ?_
  refine Ends.cv l3 (by decide +kernel) (c_four648 l3 (by omega) (p := p + 8) q3 (by omega)) (fun h4 l4 _ _ _ ⟨g4, q4, o4, w4⟩ => ?_)
  rw [show p + 8 + 4 = p + 12 from rfl] at q4 o4
  refine Ends.eq (b626_42 (n := n) (by (repeat' first | assumption | refine LX.setF _ _ ?_ (by decide +kernel) | refine LX.setS ?_ rfl | refine LX.setA ?_ (by first | assumption | omega))) (by first | assumption | omega)) ?_
  refine Ends.cv l4 (by decide +kernel) (c_four648 l4 (by omega) (p := p + 12) q4 (by omega)) (fun h5 l5 _ _ _ ⟨g5, q5, o5, w5⟩ => ?_)
  rw [show p + 12 + 4 = p + 16 from rfl] at q5 o5
  refine Ends.eq (b626_48 (n := n) (by (repeat' first | assumption | refine LX.setF _ _ ?_ (by decide +kernel) | refine LX.setS ?_ rfl | refine LX.setA ?_ (by first | assumption | omega))) (by first | assumption | omega)) ?_
  refine Ends.cv l5 (by decide +kernel) (c_four648 l5 (by omega) (p := p + 16) q5 (by omega)) (fun h6 l6 _ _ _ ⟨g6, q6, o6, w6⟩ => ?_)
  rw [show p + 16 + 4 = p + 20 from rfl] at q6 o6
  refine Ends.eq (b626_54 (n := n) (by (repeat' first | assumption | refine LX.setF _ _ ?_ (by decide +kernel) | refine LX.setS ?_ rfl | refine LX.setA ?_ (by first | assumption | omega))) (by first | assumption | omega)) ?_
  have G1 : Agr (fun c k => c = B + 150 ∨ (c = B + 149 ∧ k = 2)) h1 h6 := (((g2.tr g3 (fun _ _ z => z)).tr g4 (fun _ _ z => z)).tr g5 (fun _ _ z => z)).tr g6 (fun _ _ z => z)
  have G : Agr (fun c k => c = B + 150 ∨ (c = B + 149 ∧ (k = 0 ∨ k = 2))) h h6 := g1.tr G1 (fun c k w => by omega)
  rw [q6]
  refine Ends.sm ⟨_, _, rfl, Or.inr ⟨by omega, rfl, by rw [G1.at _ _ (by omega)]; exact z1, G, q6, fun i hi => ?_, fun i hi => ?_⟩⟩
  · rw [o6 _ (by omega), o5 _ (by omega), o4 _ (by omega), o3 _ (by omega), o2 _ (by omega), e1, hv_na (by omega)]
  · skip
    have cases : ∃ a r, a < 5 ∧ r < 4 ∧ i = 4 * a + r := ⟨i / 4, i % 4, by omega, by omega, by omega⟩
    obtain ⟨a, r, ha, hr, rfl⟩ := cases
    have hm : (4 * a + r) % 4 = r := by omega
    unfold fd5
    rw [hm]
    have : a = 0 ∨ a = 1 ∨ a = 2 ∨ a = 3 ∨ a = 4 := by omega
    rcases this with rfl | rfl | rfl | rfl | rfl
    · rw [if_pos (by omega), o6 _ (by omega), o5 _ (by omega), o4 _ (by omega), o3 _ (by omega), ← w2 r hr]; congr 1; omega
    · rw [if_neg (by omega), if_pos (by omega), o6 _ (by omega), o5 _ (by omega), o4 _ (by omega), ← w3 r hr]; congr 1; omega
    · rw [if_neg (by omega), if_neg (by omega), if_pos (by omega), o6 _ (by omega), o5 _ (by omega), ← w4 r hr]; congr 1; omega
    · rw [if_neg (by omega), if_neg (by omega), if_neg (by omega), if_pos (by omega), o6 _ (by omega), ← w5 r hr]; congr 1; omega
    · rw [if_neg (by omega), if_neg (by omega), if_neg (by omega), if_neg (by omega), ← w6 r hr]; congr 1; omega
end FEED
