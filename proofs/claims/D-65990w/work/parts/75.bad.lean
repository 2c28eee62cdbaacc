/-! L3: Formulas.bad: faults and kinds of the uppermost fractions; minus, not, keep, times, rest -/
theorem b100_1' {k : Nat} (h : k < 1000000) : bop32 100 ((k + 1 : Nat) : Int) 1 = (k : Int) := b100_1 (by omega) rfl
theorem b100_2 {k : Nat} (h : k < 1000000) : bop32 100 ((k + 2 : Nat) : Int) 2 = (k : Int) := by rw [sub32 (by omega) (by omega)]; omega
theorem b100_3 {k : Nat} (h : k < 1000000) : bop32 100 ((k + 3 : Nat) : Int) 3 = (k : Int) := by rw [sub32 (by omega) (by omega)]; omega
theorem b96_2 {m : Nat} (h : m < 2147483640) : bop32 96 (m : Int) 2 = ((m + 2 : Nat) : Int) := addNN (y := 2) (by omega)
def bd2 (al : Bool) (x y : Fq) : Int := if x.2.2.2 ≠ 0 then x.2.2.2 else if y.2.2.2 ≠ 0 then y.2.2.2 else if al && decide (y.2.2.1 ≠ x.2.2.1) then 1 else 0
def bd3 (x y z : Fq) : Int := if x.2.2.2 ≠ 0 then x.2.2.2 else if y.2.2.2 ≠ 0 then y.2.2.2 else if z.2.2.2 ≠ 0 then z.2.2.2 else if y.2.2.1 ≠ x.2.2.1 then 1 else if z.2.2.1 ≠ x.2.2.1 then 1 else 0
section BAD
variable {gv : Nat → Int} {B n d k : Nat} {h : AH}
/-- what bad answers -/
def BadR (B k : Nat) (h : AH) (f : Int) (v : Int) (h' : AH) : Prop := (f = 0 ∧ v = 0 ∧ h' = h) ∨ (f ≠ 0 ∧ v = 1 ∧ Agr (plW B k) h h' ∧ hv h' (B + 7) 8 = ((k + 1 : Nat) : Int) ∧ frA B h' k = flt f)
theorem e_b97 (l : LX B n h) (hd : 11 ≤ d) {x1 x2 x3 x4 : Int} {tp : Nat} (h8 : hv h (B + 7) 8 = (tp : Int)) (hx : bop32 100 (tp : Int) x1 = (k : Int)) (hk : k < 200) :
    Ends (ev PP (gsF gv) B d 184 97 [(2, rf (B + 7)), (0, x1), (0, x2), (0, x3), (0, x4)] [] h) (fun r => ∃ v h', r = ((0, (0, v)), h') ∧ BadR B k h x3 v h') := by
  refine Ends.eq (b184_97 (n := n) (by (repeat' first | assumption | refine LX.setF _ _ ?_ (by decide +kernel) | refine LX.setS ?_ rfl | refine LX.setA ?_ (by first | assumption | omega))) (by first | assumption | omega)) ?_
  rw [h8, hx]
  clear hx
  refine Ends.b1 (fun z => ?_) (fun z => Ends.sm ⟨_, _, rfl, Or.inl ⟨z, rfl, rfl⟩⟩)
  have l1 : LX B n (hset h (B + 7) 8 (k : Int)) := LX.setF 7 8 l (by decide +kernel)
  refine Ends.cv l1 (by decide +kernel) (c_fail (k := k) l1 (by omega) (hv_set_at ..) hk) (fun q2 l2 _ _ _ ⟨e1, e2, e3⟩ => ?_)
  refine Ends.eq (b184_118 (n := n) (by (repeat' first | assumption | refine LX.setF _ _ ?_ (by decide +kernel) | refine LX.setS ?_ rfl | refine LX.setA ?_ (by first | assumption | omega))) (by first | assumption | omega)) ?_
  exact Ends.sm ⟨_, _, rfl, Or.inr ⟨z, rfl, (Agr.rf.set (Or.inl ⟨rfl, rfl⟩)).tr e1 (fun _ _ z => z), e2, e3⟩⟩
theorem c_bad1 (l : LX B n h) (hd : 13 ≤ d) (h8 : hv h (B + 7) 8 = ((k + 1 : Nat) : Int)) (hk : k < 199) : Vt 0 (cll PP (ev PP (gsF gv) B) d 184 [(2, rf (B + 7)), (0, 1), (0, 0)] h) (fun v h' => BadR B k h (frA B h k).2.2.2 v h') := by
  refine Vt.into (D := 12) hd (Nat.le_of_ble_eq_true rfl) rfl (fun d hd => ?_)
  have hx : bop32 100 ((k + 1 : Nat) : Int) 1 = (k : Int) := b100_1' (by omega)
  have fin := fun x2 x3 x4 => e_b97 (gv := gv) (d := d) (x1 := 1) (x2 := x2) (x3 := x3) (x4 := x4) l (by omega) h8 hx (by omega)
  clear hx
  refine Ends.eq (b184_0 (n := n) (by (repeat' first | assumption | refine LX.setF _ _ ?_ (by decide +kernel) | refine LX.setS ?_ rfl | refine LX.setA ?_ (by first | assumption | omega))) (by first | assumption | omega)) ?_
  rw [h8, b100_1' (by omega)]
  refine Ends.eq (b184_10 (n := n) (by (repeat' first | assumption | refine LX.setF _ _ ?_ (by decide +kernel) | refine LX.setS ?_ rfl | refine LX.setA ?_ (by first | assumption | omega))) (by first | assumption | omega)) ?_
  rw [h8, tn, w_succ (by omega)]
  refine Ends.b3 (fun z => by omega) (fun _ => Ends.b1 (fun z => absurd rfl z) (fun _ => Ends.g ⟨by omega, by omega⟩ ?_))
  refine Ends.eq (b184_10 (n := n) (by (repeat' first | assumption | refine LX.setF _ _ ?_ (by decide +kernel) | refine LX.setS ?_ rfl | refine LX.setA ?_ (by first | assumption | omega))) (by first | assumption | omega)) ?_
  rw [h8]
  refine Ends.b3 (fun _ => ?_) (fun z => by omega)
  refine Ends.eq (b184_37 (n := n) (by (repeat' first | assumption | refine LX.setF _ _ ?_ (by decide +kernel) | refine LX.setS ?_ rfl | refine LX.setA ?_ (by first | assumption | omega))) (by first | assumption | omega)) ?_
  rw [h8, b100_1' (by omega), b96_1 (by omega)]
  refine Ends.eq (b184_47 (n := n) (by (repeat' first | assumption | refine LX.setF _ _ ?_ (by decide +kernel) | refine LX.setS ?_ rfl | refine LX.setA ?_ (by first | assumption | omega))) (by first | assumption | omega)) ?_
  rw [h8]
  exact Ends.b3 (fun _ => fin _ _ _) (fun z => by omega)
theorem e_b37 (l : LX B n h) (hd : 12 ≤ d) (h8 : hv h (B + 7) 8 = ((k + 2 : Nat) : Int)) (hk : k < 198) {al : Bool} {x3 x4 f0 : Int} (e : f0 = if x3 ≠ 0 then x3 else if al && decide ((frA B h (k + 1)).2.2.1 ≠ (frA B h k).2.2.1) then 1 else 0) :
    Ends (ev PP (gsF gv) B d 184 37 [(2, rf (B + 7)), (0, 2), (0, if al then (1 : Int) else 0), (0, x3), (0, x4)] [] h) (fun r => ∃ v h', r = ((0, (0, v)), h') ∧ BadR B k h f0 v h') := by
  have hx : bop32 100 ((k + 2 : Nat) : Int) 2 = (k : Int) := b100_2 (by omega)
  have fin := fun x2 x3 x4 => e_b97 (gv := gv) (d := d) (x1 := 2) (x2 := x2) (x3 := x3) (x4 := x4) l (by omega) h8 hx (by omega)
  clear hx
  refine Ends.eq (b184_37 (n := n) (by (repeat' first | assumption | refine LX.setF _ _ ?_ (by decide +kernel) | refine LX.setS ?_ rfl | refine LX.setA ?_ (by first | assumption | omega))) (by first | assumption | omega)) ?_
  rw [h8, b100_2 (by omega), b96_1 (by omega)]
  refine Ends.eq (b184_47 (n := n) (by (repeat' first | assumption | refine LX.setF _ _ ?_ (by decide +kernel) | refine LX.setS ?_ rfl | refine LX.setA ?_ (by first | assumption | omega))) (by first | assumption | omega)) ?_
  rw [h8, b100_2 (by omega), tn, tn, w_succ (by omega)]
  refine Ends.b3 (fun z => by omega) (fun _ => Ends.b1 (fun z => ?_) (fun z => ?_))
  · rw [if_pos z] at e; rw [e]; exact fin _ _ _
  · rw [if_neg (fun w => w z)] at e
    cases al with
    | false =>
      refine Ends.b0 (fun _ => ?_) (fun w => absurd rfl w)
      have e : f0 = 0 := e
      rw [e, z]; exact fin _ _ _
    | true =>
      refine Ends.b0 (fun w => absurd w (by decide)) (fun _ => Ends.g ⟨by omega, by omega⟩ (Ends.g ⟨by omega, by omega⟩ ?_))
      refine Ends.eq (b184_47 (n := n) (by (repeat' first | assumption | refine LX.setF _ _ ?_ (by decide +kernel) | refine LX.setS ?_ rfl | refine LX.setA ?_ (by first | assumption | omega))) (by first | assumption | omega)) ?_
      rw [h8]
      refine Ends.b3 (fun _ => ?_) (fun w => by omega)
      have ek : cond (tst 0 (hv h (B + 13) (k + 1)) (hv h (B + 13) k)) (0 : Int) 1 = f0 := by
        rw [e, tst0]
        unfold frA
        by_cases q : hv h (B + 13) (k + 1) = hv h (B + 13) k
        · simp [q]
        · simp [q]
      rw [ek]; exact fin _ _ _
theorem c_bad2 (l : LX B n h) (hd : 13 ≤ d) (h8 : hv h (B + 7) 8 = ((k + 2 : Nat) : Int)) (hk : k < 198) {al : Bool} {x2 : Int} (ha : x2 = if al then 1 else 0) : Vt 0 (cll PP (ev PP (gsF gv) B) d 184 [(2, rf (B + 7)), (0, 2), (0, x2)] h) (fun v h' => BadR B k h (bd2 al (frA B h k) (frA B h (k + 1))) v h') := by
  subst ha
  refine Vt.into (D := 12) hd (Nat.le_of_ble_eq_true rfl) rfl (fun d hd => ?_)
  refine Ends.eq (b184_0 (n := n) (by (repeat' first | assumption | refine LX.setF _ _ ?_ (by decide +kernel) | refine LX.setS ?_ rfl | refine LX.setA ?_ (by first | assumption | omega))) (by first | assumption | omega)) ?_
  rw [h8, b100_2 (by omega)]
  refine Ends.eq (b184_10 (n := n) (by (repeat' first | assumption | refine LX.setF _ _ ?_ (by decide +kernel) | refine LX.setS ?_ rfl | refine LX.setA ?_ (by first | assumption | omega))) (by first | assumption | omega)) ?_
  rw [h8, tn, w_succ (by omega)]
  refine Ends.b3 (fun z => by omega) (fun _ => Ends.b1 (fun z => absurd rfl z) (fun _ => Ends.g ⟨by omega, by omega⟩ ?_))
  refine Ends.eq (b184_10 (n := n) (by (repeat' first | assumption | refine LX.setF _ _ ?_ (by decide +kernel) | refine LX.setS ?_ rfl | refine LX.setA ?_ (by first | assumption | omega))) (by first | assumption | omega)) ?_
  rw [h8, tn, w_succ (by omega)]
  refine Ends.b3 (fun z => by omega) (fun _ => Ends.b1 (fun z => ?_) (fun z => Ends.g ⟨by omega, by omega⟩ ?_))
  · refine e_b37 l (by omega) h8 hk ?_
    unfold bd2
    rw [if_pos (show (frA B h k).2.2.2 ≠ 0 from z), if_pos z]; rfl
  · refine Ends.eq (b184_10 (n := n) (by (repeat' first | assumption | refine LX.setF _ _ ?_ (by decide +kernel) | refine LX.setS ?_ rfl | refine LX.setA ?_ (by first | assumption | omega))) (by first | assumption | omega)) ?_
    rw [h8]
    refine Ends.b3 (fun _ => ?_) (fun w => by omega)
    refine e_b37 l (by omega) h8 hk ?_
    unfold bd2
    rw [if_neg (fun w => w z)]; rfl
theorem c_bad3 (l : LX B n h) (hd : 13 ≤ d) (h8 : hv h (B + 7) 8 = ((k + 3 : Nat) : Int)) (hk : k < 197) : Vt 0 (cll PP (ev PP (gsF gv) B) d 184 [(2, rf (B + 7)), (0, 3), (0, 1)] h) (fun v h' => BadR B k h (bd3 (frA B h k) (frA B h (k + 1)) (frA B h (k + 2))) v h') := by
  refine Vt.into (D := 12) hd (Nat.le_of_ble_eq_true rfl) rfl (fun d hd => ?_)
  have hx : bop32 100 ((k + 3 : Nat) : Int) 3 = (k : Int) := b100_3 (by omega)
  have fin := fun x2 x3 x4 => e_b97 (gv := gv) (d := d) (x1 := 3) (x2 := x2) (x3 := x3) (x4 := x4) l (by omega) h8 hx (by omega)
  clear hx
  have e37 : ∀ (x3 x4 f0 : Int), f0 = (if x3 ≠ 0 then x3 else if (frA B h (k + 1)).2.2.1 ≠ (frA B h k).2.2.1 then 1 else if (frA B h (k + 2)).2.2.1 ≠ (frA B h k).2.2.1 then 1 else 0) → Ends (ev PP (gsF gv) B d 184 37 [(2, rf (B + 7)), (0, 3), (0, 1), (0, x3), (0, x4)] [] h) (fun r => ∃ v h', r = ((0, (0, v)), h') ∧ BadR B k h f0 v h') := by
    intro x3 x4 f0 e
    refine Ends.eq (b184_37 (n := n) (by (repeat' first | assumption | refine LX.setF _ _ ?_ (by decide +kernel) | refine LX.setS ?_ rfl | refine LX.setA ?_ (by first | assumption | omega))) (by first | assumption | omega)) ?_
    rw [h8, b100_3 (by omega), b96_1 (by omega)]
    refine Ends.eq (b184_47 (n := n) (by (repeat' first | assumption | refine LX.setF _ _ ?_ (by decide +kernel) | refine LX.setS ?_ rfl | refine LX.setA ?_ (by first | assumption | omega))) (by first | assumption | omega)) ?_
    rw [h8, b100_3 (by omega), tn, tn, w_succ (by omega)]
    refine Ends.b3 (fun z => by omega) (fun _ => Ends.b1 (fun z => ?_) (fun z => ?_))
    · rw [if_pos z] at e; rw [e]; exact fin _ _ _
    · rw [if_neg (fun w => w z)] at e
      refine Ends.b0 (fun w => absurd w (by decide)) (fun _ => Ends.g ⟨by omega, by omega⟩ (Ends.g ⟨by omega, by omega⟩ ?_))
      refine Ends.eq (b184_47 (n := n) (by (repeat' first | assumption | refine LX.setF _ _ ?_ (by decide +kernel) | refine LX.setS ?_ rfl | refine LX.setA ?_ (by first | assumption | omega))) (by first | assumption | omega)) ?_
      rw [h8, b100_3 (by omega), tn, tn, w_succ (by omega), tst0]
      by_cases q : hv h (B + 13) (k + 1) = hv h (B + 13) k
      · rw [if_neg (fun w => w q)] at e
        rw [decide_eq_true q]
        refine Ends.b3 (fun w => by omega) (fun _ => Ends.b1 (fun w => absurd rfl w) (fun _ => Ends.b0 (fun w => absurd w (by decide)) (fun _ => Ends.g ⟨by omega, by omega⟩ (Ends.g ⟨by omega, by omega⟩ ?_))))
        refine Ends.eq (b184_47 (n := n) (by (repeat' first | assumption | refine LX.setF _ _ ?_ (by decide +kernel) | refine LX.setS ?_ rfl | refine LX.setA ?_ (by first | assumption | omega))) (by first | assumption | omega)) ?_
        rw [h8]
        refine Ends.b3 (fun _ => ?_) (fun w => by omega)
        have ek : cond (tst 0 (hv h (B + 13) (k + 1 + 1)) (hv h (B + 13) k)) (0 : Int) 1 = f0 := by
          rw [e, tst0]
          unfold frA
          by_cases q2 : hv h (B + 13) (k + 2) = hv h (B + 13) k
          · simp [q2]
          · simp [q2]
        rw [ek]; exact fin _ _ _
      · rw [if_pos (show (frA B h (k + 1)).2.2.1 ≠ (frA B h k).2.2.1 from q)] at e
        rw [decide_eq_false q, e]
        refine Ends.b3 (fun w => by omega) (fun _ => Ends.b1 (fun _ => fin _ _ _) (fun w => absurd w (by decide)))
  refine Ends.eq (b184_0 (n := n) (by (repeat' first | assumption | refine LX.setF _ _ ?_ (by decide +kernel) | refine LX.setS ?_ rfl | refine LX.setA ?_ (by first | assumption | omega))) (by first | assumption | omega)) ?_
  rw [h8, b100_3 (by omega)]
  refine Ends.eq (b184_10 (n := n) (by (repeat' first | assumption | refine LX.setF _ _ ?_ (by decide +kernel) | refine LX.setS ?_ rfl | refine LX.setA ?_ (by first | assumption | omega))) (by first | assumption | omega)) ?_
  rw [h8, tn, w_succ (by omega)]
  refine Ends.b3 (fun z => by omega) (fun _ => Ends.b1 (fun z => absurd rfl z) (fun _ => Ends.g ⟨by omega, by omega⟩ ?_))
  refine Ends.eq (b184_10 (n := n) (by (repeat' first | assumption | refine LX.setF _ _ ?_ (by decide +kernel) | refine LX.setS ?_ rfl | refine LX.setA ?_ (by first | assumption | omega))) (by first | assumption | omega)) ?_
  rw [h8, tn, w_succ (by omega)]
  refine Ends.b3 (fun z => by omega) (fun _ => Ends.b1 (fun z => ?_) (fun z => Ends.g ⟨by omega, by omega⟩ ?_))
  · refine e37 _ _ _ ?_
    unfold bd3
    rw [if_pos (show (frA B h k).2.2.2 ≠ 0 from z), if_pos z]; rfl
  · refine Ends.eq (b184_10 (n := n) (by (repeat' first | assumption | refine LX.setF _ _ ?_ (by decide +kernel) | refine LX.setS ?_ rfl | refine LX.setA ?_ (by first | assumption | omega))) (by first | assumption | omega)) ?_
    rw [h8, tn, w_succ (by omega)]
    refine Ends.b3 (fun w => by omega) (fun _ => Ends.b1 (fun z2 => ?_) (fun z2 => Ends.g ⟨by omega, by omega⟩ ?_))
    · refine e37 _ _ _ ?_
      unfold bd3
      rw [if_neg (fun w => w z), if_pos (show (frA B h (k + 1)).2.2.2 ≠ 0 from z2), if_pos z2]; rfl
    · refine Ends.eq (b184_10 (n := n) (by (repeat' first | assumption | refine LX.setF _ _ ?_ (by decide +kernel) | refine LX.setS ?_ rfl | refine LX.setA ?_ (by first | assumption | omega))) (by first | assumption | omega)) ?_
      rw [h8]
      refine Ends.b3 (fun _ => ?_) (fun w => by omega)
      refine e37 _ _ _ ?_
      unfold bd3
      rw [if_neg (fun w => w z), if_neg (fun w => w z2)]; rfl
/-- one fraction comes in place of some -/
def PutR (B k : Nat) (h : AH) (q : Fq) (h' : AH) : Prop := Agr (plW B k) h h' ∧ hv h' (B + 7) 8 = ((k + 1 : Nat) : Int) ∧ frA B h' k = q
def fNeg (x : Fq) : Fq := (-x.1, x.2.1, x.2.2.1, x.2.2.2)
theorem c_minus (l : LX B n h) (hd : 10 ≤ d) (h8 : hv h (B + 7) 8 = ((k + 1 : Nat) : Int)) (hk : k < 199) (ok : FOK (frA B h k)) : Vd (cll PP (ev PP (gsF gv) B) d 208 [(2, rf (B + 7))] h) (fun h' => PutR B k h (fNeg (frA B h k)) h') := by
  have hr : -1000000000 ≤ hv h (B + 11) k ∧ hv h (B + 11) k ≤ 1000000000 := by
    rcases ok with ⟨_, h1, h2, _⟩ | ⟨f, e, _⟩
    · exact ⟨h1, h2⟩
    · have : hv h (B + 11) k = 0 := congrArg Prod.fst e
      omega
  refine Vd.into (D := 9) hd (Nat.le_of_ble_eq_true rfl) rfl (fun d hd => ?_)
  refine Ends.eq (b208_0 (n := n) (by (repeat' first | assumption | refine LX.setF _ _ ?_ (by decide +kernel) | refine LX.setS ?_ rfl | refine LX.setA ?_ (by first | assumption | omega))) (by first | assumption | omega)) ?_
  rw [h8, b100_1' (by omega), tn, an1, neg64 (by omega) (by omega)]
  refine Ends.g ⟨by omega, by omega⟩ (Ends.sm ⟨_, rfl, Agr.rf.set (Or.inr ⟨by omega, by omega, Nat.le_refl _⟩), ?_, ?_⟩)
  · rw [hv_na (by omega)]; exact h8
  · unfold frA fNeg
    rw [hv_set_at, hv_na (by omega), hv_na (by omega), hv_na (by omega)]
def b2i (b : Bool) : Int := if b then 1 else 0
def fNot (x : Fq) : Fq := if x.2.2.2 ≠ 0 then flt x.2.2.2 else if x.2.2.1 ≠ 0 then flt 1 else mkF (b2i (decide (x.1 = 0))) 1 0
theorem c_not (l : LX B n h) (hd : 14 ≤ d) (h8 : hv h (B + 7) 8 = ((k + 1 : Nat) : Int)) (hk : k < 199) : Vd (cll PP (ev PP (gsF gv) B) d 210 [(2, rf (B + 7))] h) (fun h' => PutR B k h (fNot (frA B h k)) h') := by
  refine Vd.into (D := 13) hd (Nat.le_of_ble_eq_true rfl) rfl (fun d hd => ?_)
  refine Ends.eq (b210_0 (n := n) (by (repeat' first | assumption | refine LX.setF _ _ ?_ (by decide +kernel) | refine LX.setS ?_ rfl | refine LX.setA ?_ (by first | assumption | omega))) (by first | assumption | omega)) ?_
  refine Ends.ct l (by decide +kernel) (by decide) (c_bad1 l (by omega) h8 hk) (fun v q1 l1 _ _ _ R => ?_)
  refine Ends.eq (b210_6 (n := n) (by (repeat' first | assumption | refine LX.setF _ _ ?_ (by decide +kernel) | refine LX.setS ?_ rfl | refine LX.setA ?_ (by first | assumption | omega))) (by first | assumption | omega)) ?_
  rcases R with ⟨f0, rfl, rfl⟩ | ⟨f0, rfl, g1, g2, g3⟩
  · have l2 : LX B n (hset q1 (B + 7) 8 (k : Int)) := LX.setF 7 8 l (by decide +kernel)
    have a2 : Agr (plW B k) q1 (hset q1 (B + 7) 8 (k : Int)) := Agr.rf.set (Or.inl ⟨rfl, rfl⟩)
    rw [h8, b100_1' (by omega), tn]
    refine Ends.b0 (fun _ => Ends.g ⟨by omega, by omega⟩ (Ends.b0 (fun z => ?_) (fun z => ?_))) (fun z => absurd rfl z)
    · have ea : cond (tst 1 (cmp64 (hv q1 (B + 11) k) 0) 0) (0 : Int) 1 = b2i (decide (hv q1 (B + 11) k = 0)) := by
        rw [tc1]
        by_cases q : hv q1 (B + 11) k = 0 <;> simp [q, b2i]
      rw [ea]
      refine Ends.cv l2 (by decide +kernel) (c_lay (k := k) l2 (by omega) (hv_set_at ..) (by omega) (by unfold b2i; split <;> omega) (by omega) (by decide)) (fun q2 l3 _ _ _ ⟨e1, e2, e3⟩ => ?_)
      refine Ends.eq (b210_65 (n := n) (by (repeat' first | assumption | refine LX.setF _ _ ?_ (by decide +kernel) | refine LX.setS ?_ rfl | refine LX.setA ?_ (by first | assumption | omega))) (by first | assumption | omega)) ?_
      refine Ends.sm ⟨_, rfl, a2.tr e1 (fun _ _ z => z), e2, ?_⟩
      unfold fNot
      rw [if_neg (fun w => w f0), if_neg (fun w => w z)]; exact e3
    · refine Ends.cv l2 (by decide +kernel) (c_fail (k := k) l2 (by omega) (hv_set_at ..) (by omega)) (fun q2 l3 _ _ _ ⟨e1, e2, e3⟩ => ?_)
      refine Ends.eq (b210_37 (n := n) (by (repeat' first | assumption | refine LX.setF _ _ ?_ (by decide +kernel) | refine LX.setS ?_ rfl | refine LX.setA ?_ (by first | assumption | omega))) (by first | assumption | omega)) ?_
      refine Ends.eq (b210_65 (n := n) (by (repeat' first | assumption | refine LX.setF _ _ ?_ (by decide +kernel) | refine LX.setS ?_ rfl | refine LX.setA ?_ (by first | assumption | omega))) (by first | assumption | omega)) ?_
      refine Ends.sm ⟨_, rfl, a2.tr e1 (fun _ _ z => z), e2, ?_⟩
      unfold fNot
      rw [if_neg (fun w => w f0), if_pos (show (frA B q1 k).2.2.1 ≠ 0 from z)]; exact e3
  · refine Ends.b0 (fun z => absurd z (by decide)) (fun _ => Ends.sm ⟨_, rfl, g1, g2, ?_⟩)
    unfold fNot
    rw [if_pos f0]; exact g3
theorem c_keep (l : LX B n h) (hd : 11 ≤ d) (h8 : hv h (B + 7) 8 = (k : Int)) (hk : k < 200) {w : Nat} (hw : w < 200) : Vd (cll PP (ev PP (gsF gv) B) d 204 [(2, rf (B + 7)), (0, (w : Int))] h) (fun h' => PutR B k h ((frA B h w).1, (frA B h w).2.1, (frA B h w).2.2.1, 0) h') := by
  refine Vd.into (D := 10) hd (Nat.le_of_ble_eq_true rfl) rfl (fun d hd => ?_)
  refine Ends.eq (b204_0 (n := n) (by (repeat' first | assumption | refine LX.setF _ _ ?_ (by decide +kernel) | refine LX.setS ?_ rfl | refine LX.setA ?_ (by first | assumption | omega))) (by first | assumption | omega)) ?_
  rw [tn]
  refine Ends.g ⟨by omega, by omega⟩ ?_
  refine Ends.cv l (by decide +kernel) (c_push l (by omega) h8 hk) (fun q2 l3 _ _ _ ⟨e1, e2, e3⟩ => ?_)
  refine Ends.eq (b204_33 (n := n) (by (repeat' first | assumption | refine LX.setF _ _ ?_ (by decide +kernel) | refine LX.setS ?_ rfl | refine LX.setA ?_ (by first | assumption | omega))) (by first | assumption | omega)) ?_
  exact Ends.sm ⟨_, rfl, e1, e2, e3⟩
def fTim (a b c e kd : Int) : Fq := if kd < -4 ∨ 4 < kd then flt 1 else mkF (a * c) (b * e) kd
theorem c_times (l : LX B n h) (hd : 13 ≤ d) (h8 : hv h (B + 7) 8 = (k : Int)) (hk : k < 200) {a b c e kd : Int} (ha : -1000000000 ≤ a ∧ a ≤ 1000000000) (hb : 1 ≤ b ∧ b ≤ 1000000000) (hc : -1000000000 ≤ c ∧ c ≤ 1000000000) (he : 1 ≤ e ∧ e ≤ 1000000000) : Vd (cll PP (ev PP (gsF gv) B) d 218 [(2, rf (B + 7)), (1, a), (1, b), (1, c), (1, e), (0, kd)] h) (fun h' => PutR B k h (fTim a b c e kd) h') := by
  have m1 := mulB ha hc
  have m2 := mulB (a := b) (c := e) (by omega) (by omega)
  have m3 : 1 * 1 ≤ b * e := Int.mul_le_mul hb.1 he.1 (by decide) (by omega)
  refine Vd.into (D := 12) hd (Nat.le_of_ble_eq_true rfl) rfl (fun d hd => ?_)
  refine Ends.eq (b218_0 (n := n) (by (repeat' first | assumption | refine LX.setF _ _ ?_ (by decide +kernel) | refine LX.setS ?_ rfl | refine LX.setA ?_ (by first | assumption | omega))) (by first | assumption | omega)) ?_
  rw [mul64 (by omega) (by omega), mul64 (by omega) (by omega)]
  have bad : kd < -4 ∨ 4 < kd → ∀ (u2 u4 u6 u8 : AV), Ends (ev PP (gsF gv) B d 218 13 [(2, rf (B + 7)), (1, a), u2, (1, b), u4, (1, c), u6, (1, e), u8, (0, kd)] [] h) (fun r => ∃ h', r = ((0, (9, 0)), h') ∧ PutR B k h (fTim a b c e kd) h') := by
    intro z u2 u4 u6 u8
    refine Ends.eq (b218_13 (n := n) (by (repeat' first | assumption | refine LX.setF _ _ ?_ (by decide +kernel) | refine LX.setS ?_ rfl | refine LX.setA ?_ (by first | assumption | omega))) (by first | assumption | omega)) ?_
    refine Ends.cv l (by decide +kernel) (c_fail l (by omega) h8 hk) (fun q2 l3 _ _ _ ⟨e1, e2, e3⟩ => ?_)
    refine Ends.eq (b218_18 (n := n) (by (repeat' first | assumption | refine LX.setF _ _ ?_ (by decide +kernel) | refine LX.setS ?_ rfl | refine LX.setA ?_ (by first | assumption | omega))) (by first | assumption | omega)) ?_
    refine Ends.eq (b218_35 (n := n) (by (repeat' first | assumption | refine LX.setF _ _ ?_ (by decide +kernel) | refine LX.setS ?_ rfl | refine LX.setA ?_ (by first | assumption | omega))) (by first | assumption | omega)) ?_
    refine Ends.sm ⟨_, rfl, e1, e2, ?_⟩
    unfold fTim
    rw [if_pos z]; exact e3
  refine Ends.b2 (fun z => bad (Or.inl z) _ _ _ _) (fun z1 => Ends.b5 (fun z2 => ?_) (fun z => bad (Or.inr z) _ _ _ _))
  refine Ends.cv l (by decide +kernel) (c_lay l (by omega) h8 hk (by omega) (by omega) (by omega)) (fun q2 l3 _ _ _ ⟨e1, e2, e3⟩ => ?_)
  refine Ends.eq (b218_35 (n := n) (by (repeat' first | assumption | refine LX.setF _ _ ?_ (by decide +kernel) | refine LX.setS ?_ rfl | refine LX.setA ?_ (by first | assumption | omega))) (by first | assumption | omega)) ?_
  refine Ends.sm ⟨_, rfl, e1, e2, ?_⟩
  unfold fTim
  rw [if_neg (by omega)]; exact e3
end BAD
