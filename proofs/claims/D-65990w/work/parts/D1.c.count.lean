/-! L3: counts, on both sides -/
def ctV (w : Int) (L : Nat → Int) : Int := if 0 ≤ w ∧ w ≤ 15 then L w.toNat else -1
def ctC (B n : Nat) (h : AH) (is : Nat → Bool) (k : Nat) : Int := match k with
  | 0 => hv h (B + 2) 0
  | 1 => hv h (B + 2) 1
  | 2 => hv h (B + 2) 3
  | 3 => hv h (B + 2) 5
  | 4 => ((cntN is 10 : Nat) : Int)
  | 5 => hv h (B + 118) 3
  | 6 => hv h (B + 118) 4
  | 7 => hv h (B + 0) 25
  | 8 => hv h (B + 0) 15
  | 9 => hv h (B + 143) 5
  | 10 => hv h (B + 1) 6
  | 11 => v450 B h
  | 12 => hv h (B + 2) 2
  | 13 => (n : Int)
  | 14 => bop32 104 4 (hv h (B + 135) 8)
  | _ => cond (tst 5 (hv h (B + 2) 5) 0) (-1) (hv h (B + 2) 6)
def ctM (B n : Nat) (h : AH) (q : Nat) (is : Nat → Bool) (k : Nat) : Int := match k with
  | 0 => hv h q 0
  | 1 => hv h q 1
  | 2 => hv h q 3
  | 3 => hv h q 5
  | 4 => ((cntN is 10 : Nat) : Int)
  | 5 => hv h (B + 149) 120
  | 6 => hv h (B + 149) 121
  | 7 => hv h (B + 149) 152
  | 8 => hv h (B + 149) 2
  | 9 => hv h (B + 149) 165
  | 10 => hv h (B + 149) 17
  | 11 => hv h (B + 149) 18
  | 12 => hv h q 2
  | 13 => (n : Int)
  | 14 => hv h (B + 149) 160
  | _ => cond (tst 5 (hv h q 5) 0) (-1) (hv h (q + 7) 0)
section COUNTS
variable {gv : Nat → Int} {B n d : Nat} {h : AH} {is : Nat → Bool} {w : Int}
theorem c_count14 (l : LX B n h) (hd : 12 ≤ d) (is0 : ∀ i, i < 10 → hv h (B + 28) i = (if is i = true then 1 else 0)) :
    Vt 0 (cll PP (ev PP (gsF gv) B) d 14 [(2, rf (B + 0)), (0, w)] h) (fun v h' => h' = h ∧ v = ctV w (ctC B n h is)) := by
  refine Vt.inq (D := 11) hd (Nat.le_of_ble_eq_true rfl) rfl (fun d hd P K => ?_)
  have fin : ∀ (v : Int) (k : Nat), k < 16 → w = (k : Int) → v = ctC B n h is k → P ((0, (0, v)), h) := fun v k hk e ev_ => K _ _ ⟨rfl, by
    unfold ctV
    rw [e, if_pos ⟨by omega, by omega⟩, tn]
    exact ev_⟩
  have no : ¬ (0 ≤ w ∧ w ≤ 15) → P ((0, (0, -1)), h) := fun e => K _ _ ⟨rfl, by unfold ctV; rw [if_neg e]⟩
  refine Ends.eq (b14_0 (n := n) (by (repeat' first | assumption | refine LX.setF _ _ ?_ (by decide +kernel) | refine LX.setS ?_ rfl | refine LX.setA ?_ (by first | assumption | omega))) (by first | assumption | omega)) ?_
  by_cases hw : 0 ≤ w ∧ w ≤ 15
  rotate_left
  · rw [show sw14_1 w = 250 from by
      unfold sw14_1
      iterate 16 rw [if_neg (by omega)]]
    refine Ends.eq (b14_250 (n := n) (by (repeat' first | assumption | refine LX.setF _ _ ?_ (by decide +kernel) | refine LX.setS ?_ rfl | refine LX.setA ?_ (by first | assumption | omega))) (by first | assumption | omega)) ?_
    exact Ends.sm (no hw)
  obtain ⟨k, rfl⟩ : ∃ k : Nat, w = (k : Int) := ⟨w.toNat, by omega⟩
  have k16 : k = 0 ∨ k = 1 ∨ k = 2 ∨ k = 3 ∨ k = 4 ∨ k = 5 ∨ k = 6 ∨ k = 7 ∨ k = 8 ∨ k = 9 ∨ k = 10 ∨ k = 11 ∨ k = 12 ∨ k = 13 ∨ k = 14 ∨ k = 15 := by omega
  have q0 : ∀ k : Nat, k < 100 → (0 : Int) ≤ (k : Int) ∧ (k : Int) < ((37368 : Nat) : Int) := fun k hk => ⟨by omega, by omega⟩
  rcases k16 with rfl | rfl | rfl | rfl | rfl | rfl | rfl | rfl | rfl | rfl | rfl | rfl | rfl | rfl | rfl | rfl
  · rw [show sw14_1 ((0 : Nat) : Int) = 80 from rfl]
    refine Ends.eq (b14_80 (n := n) (by (repeat' first | assumption | refine LX.setF _ _ ?_ (by decide +kernel) | refine LX.setS ?_ rfl | refine LX.setA ?_ (by first | assumption | omega))) (by first | assumption | omega)) ?_
    exact Ends.g (q0 0 (by decide)) (Ends.sm (fin _ 0 (by decide) rfl rfl))
  · rw [show sw14_1 ((1 : Nat) : Int) = 89 from rfl]
    refine Ends.eq (b14_89 (n := n) (by (repeat' first | assumption | refine LX.setF _ _ ?_ (by decide +kernel) | refine LX.setS ?_ rfl | refine LX.setA ?_ (by first | assumption | omega))) (by first | assumption | omega)) ?_
    exact Ends.g (q0 1 (by decide)) (Ends.sm (fin _ 1 (by decide) rfl rfl))
  · rw [show sw14_1 ((2 : Nat) : Int) = 98 from rfl]
    refine Ends.eq (b14_98 (n := n) (by (repeat' first | assumption | refine LX.setF _ _ ?_ (by decide +kernel) | refine LX.setS ?_ rfl | refine LX.setA ?_ (by first | assumption | omega))) (by first | assumption | omega)) ?_
    exact Ends.g (q0 3 (by decide)) (Ends.sm (fin _ 2 (by decide) rfl rfl))
  · rw [show sw14_1 ((3 : Nat) : Int) = 107 from rfl]
    refine Ends.eq (b14_107 (n := n) (by (repeat' first | assumption | refine LX.setF _ _ ?_ (by decide +kernel) | refine LX.setS ?_ rfl | refine LX.setA ?_ (by first | assumption | omega))) (by first | assumption | omega)) ?_
    exact Ends.g (q0 5 (by decide)) (Ends.sm (fin _ 3 (by decide) rfl rfl))
  · rw [show sw14_1 ((4 : Nat) : Int) = 116 from rfl]
    refine Ends.eq (b14_116 (n := n) (by (repeat' first | assumption | refine LX.setF _ _ ?_ (by decide +kernel) | refine LX.setS ?_ rfl | refine LX.setA ?_ (by first | assumption | omega))) (by first | assumption | omega)) ?_
    have lp : ∀ (c k : Nat), k + c = 10 → Ends (ev PP (gsF gv) B d 14 120 [(2, rf (B + 0)), (0, ((4 : Nat) : Int)), (0, ((cntN is k : Nat) : Int)), (0, (k : Int))] [] h) P := by
      intro c
      induction c with
      | zero =>
        intro k hk
        obtain rfl : k = 10 := by omega
        refine Ends.eq (b14_120 (n := n) (by (repeat' first | assumption | refine LX.setF _ _ ?_ (by decide +kernel) | refine LX.setS ?_ rfl | refine LX.setA ?_ (by first | assumption | omega))) (by first | assumption | omega)) ?_
        exact Ends.b3 (fun _ => Ends.sm (fin _ 4 (by decide) rfl rfl)) (fun z => absurd z (by decide))
      | succ c ih =>
        intro k hk
        have hk10 : k < 10 := by omega
        have cl := cntN_le is k
        have un := cntN_s is k
        refine Ends.eq (b14_120 (n := n) (by (repeat' first | assumption | refine LX.setF _ _ ?_ (by decide +kernel) | refine LX.setS ?_ rfl | refine LX.setA ?_ (by first | assumption | omega))) (by first | assumption | omega)) ?_
        rw [tn, is0 k hk10, w_succ (by omega), cnt_b (by omega), ← un]
        exact Ends.b3 (fun z => absurd z (by omega)) (fun _ => Ends.g ⟨by omega, by omega⟩ (ih (k + 1) (by omega)))
    exact lp 10 0 rfl
  · rw [show sw14_1 ((5 : Nat) : Int) = 151 from rfl]
    refine Ends.eq (b14_151 (n := n) (by (repeat' first | assumption | refine LX.setF _ _ ?_ (by decide +kernel) | refine LX.setS ?_ rfl | refine LX.setA ?_ (by first | assumption | omega))) (by first | assumption | omega)) ?_
    exact Ends.sm (fin _ 5 (by decide) rfl rfl)
  · rw [show sw14_1 ((6 : Nat) : Int) = 159 from rfl]
    refine Ends.eq (b14_159 (n := n) (by (repeat' first | assumption | refine LX.setF _ _ ?_ (by decide +kernel) | refine LX.setS ?_ rfl | refine LX.setA ?_ (by first | assumption | omega))) (by first | assumption | omega)) ?_
    exact Ends.sm (fin _ 6 (by decide) rfl rfl)
  · rw [show sw14_1 ((7 : Nat) : Int) = 167 from rfl]
    refine Ends.eq (b14_167 (n := n) (by (repeat' first | assumption | refine LX.setF _ _ ?_ (by decide +kernel) | refine LX.setS ?_ rfl | refine LX.setA ?_ (by first | assumption | omega))) (by first | assumption | omega)) ?_
    exact Ends.sm (fin _ 7 (by decide) rfl rfl)
  · rw [show sw14_1 ((8 : Nat) : Int) = 172 from rfl]
    refine Ends.eq (b14_172 (n := n) (by (repeat' first | assumption | refine LX.setF _ _ ?_ (by decide +kernel) | refine LX.setS ?_ rfl | refine LX.setA ?_ (by first | assumption | omega))) (by first | assumption | omega)) ?_
    exact Ends.sm (fin _ 8 (by decide) rfl rfl)
  · rw [show sw14_1 ((9 : Nat) : Int) = 177 from rfl]
    refine Ends.eq (b14_177 (n := n) (by (repeat' first | assumption | refine LX.setF _ _ ?_ (by decide +kernel) | refine LX.setS ?_ rfl | refine LX.setA ?_ (by first | assumption | omega))) (by first | assumption | omega)) ?_
    exact Ends.sm (fin _ 9 (by decide) rfl rfl)
  · rw [show sw14_1 ((10 : Nat) : Int) = 185 from rfl]
    refine Ends.eq (b14_185 (n := n) (by (repeat' first | assumption | refine LX.setF _ _ ?_ (by decide +kernel) | refine LX.setS ?_ rfl | refine LX.setA ?_ (by first | assumption | omega))) (by first | assumption | omega)) ?_
    exact Ends.sm (fin _ 10 (by decide) rfl rfl)
  · rw [show sw14_1 ((11 : Nat) : Int) = 193 from rfl]
    refine Ends.eq (b14_193 (n := n) (by (repeat' first | assumption | refine LX.setF _ _ ?_ (by decide +kernel) | refine LX.setS ?_ rfl | refine LX.setA ?_ (by first | assumption | omega))) (by first | assumption | omega)) ?_
    exact Ends.sm (fin _ 11 (by decide) rfl rfl)
  · rw [show sw14_1 ((12 : Nat) : Int) = 201 from rfl]
    refine Ends.eq (b14_201 (n := n) (by (repeat' first | assumption | refine LX.setF _ _ ?_ (by decide +kernel) | refine LX.setS ?_ rfl | refine LX.setA ?_ (by first | assumption | omega))) (by first | assumption | omega)) ?_
    exact Ends.g (q0 2 (by decide)) (Ends.sm (fin _ 12 (by decide) rfl rfl))
  · rw [show sw14_1 ((13 : Nat) : Int) = 210 from rfl]
    refine Ends.eq (b14_210 (n := n) (by (repeat' first | assumption | refine LX.setF _ _ ?_ (by decide +kernel) | refine LX.setS ?_ rfl | refine LX.setA ?_ (by first | assumption | omega))) (by first | assumption | omega)) ?_
    exact Ends.sm (fin _ 13 (by decide) rfl rfl)
  · rw [show sw14_1 ((14 : Nat) : Int) = 215 from rfl]
    refine Ends.eq (b14_215 (n := n) (by (repeat' first | assumption | refine LX.setF _ _ ?_ (by decide +kernel) | refine LX.setS ?_ rfl | refine LX.setA ?_ (by first | assumption | omega))) (by first | assumption | omega)) ?_
    exact Ends.sm (fin _ 14 (by decide) rfl rfl)
  · rw [show sw14_1 ((15 : Nat) : Int) = 225 from rfl]
    refine Ends.eq (b14_225 (n := n) (by (repeat' first | assumption | refine LX.setF _ _ ?_ (by decide +kernel) | refine LX.setS ?_ rfl | refine LX.setA ?_ (by first | assumption | omega))) (by first | assumption | omega)) ?_
    exact Ends.g (q0 5 (by decide)) (Ends.g (by cases tst 5 (v447 B h 5) 0; exact q0 6 (by decide); exact trivial) (Ends.sm (fin _ 15 (by decide) rfl rfl)))
theorem c_count585 {q : Nat} (l : LX B n h) (hd : 12 ≤ d) (is0 : ∀ i, i < 10 → hv (hset h (B + 149) 0 0) (B + 193) i = (if is i = true then 1 else 0)) (hq : hv (hset h (B + 149) 0 0) (B + 149) 19 = rf q) (Dq : YD B q (hset h (B + 149) 0 0)) :
    Vt 0 (cll PP (ev PP (gsF gv) B) d 585 [(2, rf (B + 149)), (0, w)] h) (fun v h' => h' = hset h (B + 149) 0 0 ∧ v = ctV w (ctM B n (hset h (B + 149) 0 0) q is)) := by
  refine Vt.inq (D := 11) hd (Nat.le_of_ble_eq_true rfl) rfl (fun d hd P K => ?_)
  have l1 : LX B n (hset h (B + 149) 0 0) := LX.setF 149 0 l (by decide +kernel)
  refine Ends.eq (b585_0 (n := n) (by (repeat' first | assumption | refine LX.setF _ _ ?_ (by decide +kernel) | refine LX.setS ?_ rfl | refine LX.setA ?_ (by first | assumption | omega))) (by first | assumption | omega)) ?_
  generalize hset h (B + 149) 0 0 = h1 at *
  have fin : ∀ (v : Int) (k : Nat), k < 16 → w = (k : Int) → v = ctM B n h1 q is k → P ((0, (0, v)), h1) := fun v k hk e ev_ => K _ _ ⟨rfl, by
    unfold ctV
    rw [e, if_pos ⟨by omega, by omega⟩, tn]
    exact ev_⟩
  have no : ¬ (0 ≤ w ∧ w ≤ 15) → P ((0, (0, -1)), h1) := fun e => K _ _ ⟨rfl, by unfold ctV; rw [if_neg e]⟩
  by_cases hw : 0 ≤ w ∧ w ≤ 15
  rotate_left
  · rw [show sw585_8 w = 230 from by
      unfold sw585_8
      iterate 16 rw [if_neg (by omega)]]
    refine Ends.eq (b585_230 (n := n) (by (repeat' first | assumption | refine LX.setF _ _ ?_ (by decide +kernel) | refine LX.setS ?_ rfl | refine LX.setA ?_ (by first | assumption | omega))) (by first | assumption | omega)) ?_
    exact Ends.sm (no hw)
  obtain ⟨k, rfl⟩ : ∃ k : Nat, w = (k : Int) := ⟨w.toNat, by omega⟩
  have k16 : k = 0 ∨ k = 1 ∨ k = 2 ∨ k = 3 ∨ k = 4 ∨ k = 5 ∨ k = 6 ∨ k = 7 ∨ k = 8 ∨ k = 9 ∨ k = 10 ∨ k = 11 ∨ k = 12 ∨ k = 13 ∨ k = 14 ∨ k = 15 := by omega
  rcases k16 with rfl | rfl | rfl | rfl | rfl | rfl | rfl | rfl | rfl | rfl | rfl | rfl | rfl | rfl | rfl | rfl
  · rw [show sw585_8 ((0 : Nat) : Int) = 88 from rfl]
    exact Ends.eq (b585_88 l1 (by omega) hq Dq) (Ends.sm (fin _ 0 (by decide) rfl rfl))
  · rw [show sw585_8 ((1 : Nat) : Int) = 96 from rfl]
    exact Ends.eq (b585_96 l1 (by omega) hq Dq) (Ends.sm (fin _ 1 (by decide) rfl rfl))
  · rw [show sw585_8 ((2 : Nat) : Int) = 104 from rfl]
    exact Ends.eq (b585_104 l1 (by omega) hq Dq) (Ends.sm (fin _ 2 (by decide) rfl rfl))
  · rw [show sw585_8 ((3 : Nat) : Int) = 112 from rfl]
    exact Ends.eq (b585_112 l1 (by omega) hq Dq) (Ends.sm (fin _ 3 (by decide) rfl rfl))
  · rw [show sw585_8 ((4 : Nat) : Int) = 120 from rfl]
    refine Ends.eq (b585_120 (n := n) (by (repeat' first | assumption | refine LX.setF _ _ ?_ (by decide +kernel) | refine LX.setS ?_ rfl | refine LX.setA ?_ (by first | assumption | omega))) (by first | assumption | omega)) ?_
    have lp : ∀ (c k : Nat), k + c = 10 → Ends (ev PP (gsF gv) B d 585 122 [(2, rf (B + 149)), (0, ((4 : Nat) : Int)), (0, ((cntN is k : Nat) : Int)), (0, (k : Int))] [] h1) P := by
      intro c
      induction c with
      | zero =>
        intro k hk
        obtain rfl : k = 10 := by omega
        refine Ends.eq (b585_122 (n := n) (by (repeat' first | assumption | refine LX.setF _ _ ?_ (by decide +kernel) | refine LX.setS ?_ rfl | refine LX.setA ?_ (by first | assumption | omega))) (by first | assumption | omega)) ?_
        exact Ends.b3 (fun _ => Ends.sm (fin _ 4 (by decide) rfl rfl)) (fun z => absurd z (by decide))
      | succ c ih =>
        intro k hk
        have hk10 : k < 10 := by omega
        have cl := cntN_le is k
        have un := cntN_s is k
        refine Ends.eq (b585_122 (n := n) (by (repeat' first | assumption | refine LX.setF _ _ ?_ (by decide +kernel) | refine LX.setS ?_ rfl | refine LX.setA ?_ (by first | assumption | omega))) (by first | assumption | omega)) ?_
        rw [tn, is0 k hk10, w_succ (by omega), cnt_b (by omega), ← un]
        exact Ends.b3 (fun z => absurd z (by omega)) (fun _ => Ends.g ⟨by omega, by omega⟩ (ih (k + 1) (by omega)))
    exact lp 10 0 rfl
  · rw [show sw585_8 ((5 : Nat) : Int) = 153 from rfl]
    refine Ends.eq (b585_153 (n := n) (by (repeat' first | assumption | refine LX.setF _ _ ?_ (by decide +kernel) | refine LX.setS ?_ rfl | refine LX.setA ?_ (by first | assumption | omega))) (by first | assumption | omega)) ?_
    exact Ends.sm (fin _ 5 (by decide) rfl rfl)
  · rw [show sw585_8 ((6 : Nat) : Int) = 158 from rfl]
    refine Ends.eq (b585_158 (n := n) (by (repeat' first | assumption | refine LX.setF _ _ ?_ (by decide +kernel) | refine LX.setS ?_ rfl | refine LX.setA ?_ (by first | assumption | omega))) (by first | assumption | omega)) ?_
    exact Ends.sm (fin _ 6 (by decide) rfl rfl)
  · rw [show sw585_8 ((7 : Nat) : Int) = 163 from rfl]
    refine Ends.eq (b585_163 (n := n) (by (repeat' first | assumption | refine LX.setF _ _ ?_ (by decide +kernel) | refine LX.setS ?_ rfl | refine LX.setA ?_ (by first | assumption | omega))) (by first | assumption | omega)) ?_
    exact Ends.sm (fin _ 7 (by decide) rfl rfl)
  · rw [show sw585_8 ((8 : Nat) : Int) = 168 from rfl]
    refine Ends.eq (b585_168 (n := n) (by (repeat' first | assumption | refine LX.setF _ _ ?_ (by decide +kernel) | refine LX.setS ?_ rfl | refine LX.setA ?_ (by first | assumption | omega))) (by first | assumption | omega)) ?_
    exact Ends.sm (fin _ 8 (by decide) rfl rfl)
  · rw [show sw585_8 ((9 : Nat) : Int) = 173 from rfl]
    refine Ends.eq (b585_173 (n := n) (by (repeat' first | assumption | refine LX.setF _ _ ?_ (by decide +kernel) | refine LX.setS ?_ rfl | refine LX.setA ?_ (by first | assumption | omega))) (by first | assumption | omega)) ?_
    exact Ends.sm (fin _ 9 (by decide) rfl rfl)
  · rw [show sw585_8 ((10 : Nat) : Int) = 178 from rfl]
    refine Ends.eq (b585_178 (n := n) (by (repeat' first | assumption | refine LX.setF _ _ ?_ (by decide +kernel) | refine LX.setS ?_ rfl | refine LX.setA ?_ (by first | assumption | omega))) (by first | assumption | omega)) ?_
    exact Ends.sm (fin _ 10 (by decide) rfl rfl)
  · rw [show sw585_8 ((11 : Nat) : Int) = 183 from rfl]
    refine Ends.eq (b585_183 (n := n) (by (repeat' first | assumption | refine LX.setF _ _ ?_ (by decide +kernel) | refine LX.setS ?_ rfl | refine LX.setA ?_ (by first | assumption | omega))) (by first | assumption | omega)) ?_
    exact Ends.sm (fin _ 11 (by decide) rfl rfl)
  · rw [show sw585_8 ((12 : Nat) : Int) = 188 from rfl]
    exact Ends.eq (b585_188 l1 (by omega) hq Dq) (Ends.sm (fin _ 12 (by decide) rfl rfl))
  · rw [show sw585_8 ((13 : Nat) : Int) = 196 from rfl]
    refine Ends.eq (b585_196 (n := n) (by (repeat' first | assumption | refine LX.setF _ _ ?_ (by decide +kernel) | refine LX.setS ?_ rfl | refine LX.setA ?_ (by first | assumption | omega))) (by first | assumption | omega)) ?_
    exact Ends.sm (fin _ 13 (by decide) rfl rfl)
  · rw [show sw585_8 ((14 : Nat) : Int) = 201 from rfl]
    refine Ends.eq (b585_201 (n := n) (by (repeat' first | assumption | refine LX.setF _ _ ?_ (by decide +kernel) | refine LX.setS ?_ rfl | refine LX.setA ?_ (by first | assumption | omega))) (by first | assumption | omega)) ?_
    exact Ends.sm (fin _ 14 (by decide) rfl rfl)
  · rw [show sw585_8 ((15 : Nat) : Int) = 206 from rfl]
    exact Ends.eq (b585_206 l1 (by omega) hq Dq) (Ends.sm (fin _ 15 (by decide) rfl rfl))
end COUNTS
