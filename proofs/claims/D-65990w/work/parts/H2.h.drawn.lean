/-! L3: strokes: what is shown at a point; which sides are drawn (both sides) -/
section STK
variable {gv : Nat → Int} {B n d : Nat} {h : AH} {vw : Nat → Int}
/-- the piece at a place of a square, in eighths -/
def pcD (a b : Nat) : Nat := if b < 4 then (if a < 4 then (if b < a then 0 else 7) else (if b < 8 - a then 1 else 2)) else (if a < 4 then (if 8 - b < a then 5 else 6) else (if 8 - a < 8 - b then 3 else 4))
def dpE (a b : Int) : Int := cond (tst 3 b (4 : Int)) (cond (tst 3 a (4 : Int)) (cond (tst 3 (bop32 100 (8 : Int) a) (bop32 100 (8 : Int) b)) (4 : Int) (3 : Int)) (cond (tst 3 (bop32 100 (8 : Int) b) a) (6 : Int) (5 : Int))) (cond (tst 3 a (4 : Int)) (cond (tst 5 (bop32 100 (8 : Int) a) b) (2 : Int) (1 : Int)) (cond (tst 5 a b) (7 : Int) (0 : Int)))
def mpE (a b : Int) : Int := cond (tst 0 (cond (tst 5 (v832 (bop32 100 b (4 : Int))) (v832 (bop32 100 a (4 : Int)))) (0 : Int) (1 : Int)) 0) (cond (tst 5 (bop32 100 a (4 : Int)) 0) (cond (tst 5 (bop32 100 b (4 : Int)) 0) (7 : Int) (6 : Int)) (cond (tst 3 (bop32 100 b (4 : Int)) 0) (3 : Int) (2 : Int))) (cond (tst 3 (bop32 100 b (4 : Int)) 0) (cond (tst 5 (bop32 100 a (4 : Int)) 0) (5 : Int) (4 : Int)) (cond (tst 3 (bop32 100 a (4 : Int)) 0) (1 : Int) (0 : Int)))
theorem dp_all : ∀ a b : Fin 8, dpE ((a : Nat) : Int) ((b : Nat) : Int) = ((pcD a b : Nat) : Int) ∧ pcD a b < 8 := by decide +kernel
theorem mp_all : ∀ a b : Fin 8, (0 ≤ mpE ((a : Nat) : Int) ((b : Nat) : Int) ∧ mpE ((a : Nat) : Int) ((b : Nat) : Int) < 8) ∧ ((a : Nat) ≠ b ∧ (a : Nat) + b ≠ 8 ∧ (a : Nat) ≠ 4 ∧ (b : Nat) ≠ 4 → mpE ((a : Nat) : Int) ((b : Nat) : Int) = ((pcD a b : Nat) : Int)) := by decide +kernel
/-- what is shown at a point -/
def shV (n : Nat) (vw : Nat → Int) (x y : Int) : Int := if (0 ≤ x ∧ 0 ≤ y) ∧ (x < 8 * (n : Int) ∧ y < 8 * (n : Int)) then vw (ixV n (pcD (x.toNat % 8) (y.toNat % 8)) (x.toNat / 8) (y.toNat / 8)) else -1
/-- what the desk shows, what the model shows -/
def VsD (B n : Nat) (h : AH) (vw : Nat → Int) : Prop := ∃ sh, hv h (B + 132) 4 = rf sh ∧ hk h sh = (2, 8 * n * n) ∧ ∀ p u v, p < 8 → u < n → v < n → hv h sh (ixV n p u v) = vw (ixV n p u v)
def VsM (B n : Nat) (h : AH) (vw : Nat → Int) : Prop := ∀ p u v, p < 8 → u < n → v < n → hv h (B + 242) (ixV n p u v) = vw (ixV n p u v)
theorem v470_is (hn : n ≤ 52) (V : VsD B n h vw) {x y : Int} (hx : -1000 ≤ x ∧ x ≤ 1000) (hy : -1000 ≤ y ∧ y ≤ 1000) : q470 B n h x y ∧ v470 B n h x y = shV n vw x y := by
  obtain ⟨sh, e4, ks, ev'⟩ := V
  have n8 : bop32 104 (8 : Int) (n : Int) = 8 * (n : Int) := mul32 (by omega) (by omega)
  have Q : q470 B n h x y ↔ cond (tst 2 x 0) True (cond (tst 2 y 0) True (cond (tst 3 x (bop32 104 (8 : Int) (n : Int))) True (cond (tst 2 y (bop32 104 (8 : Int) (n : Int))) (q462 B n h (bop32 122 x (3 : Int)) (bop32 122 y (3 : Int)) (dpE (bop32 126 x (7 : Int)) (bop32 126 y (7 : Int)))) True))) := Iff.rfl
  have V : v470 B n h x y = cond (tst 2 x 0) (-1 : Int) (cond (tst 2 y 0) (-1 : Int) (cond (tst 3 x (bop32 104 (8 : Int) (n : Int))) (-1 : Int) (cond (tst 2 y (bop32 104 (8 : Int) (n : Int))) (v462 B n h (bop32 122 x (3 : Int)) (bop32 122 y (3 : Int)) (dpE (bop32 126 x (7 : Int)) (bop32 126 y (7 : Int)))) (-1 : Int)))) := rfl
  rw [Q, V, n8, ct2, ct2, ct3, ct2, ct2, ct2, ct3, ct2]
  clear Q V
  unfold shV
  by_cases c1 : x < 0
  · rw [if_pos c1, if_pos c1, if_neg (by omega)]; exact ⟨trivial, rfl⟩
  rw [if_neg c1, if_neg c1]
  by_cases c2 : y < 0
  · rw [if_pos c2, if_pos c2, if_neg (by omega)]; exact ⟨trivial, rfl⟩
  rw [if_neg c2, if_neg c2]
  by_cases c3 : x < 8 * (n : Int)
  rotate_left
  · rw [if_neg c3, if_neg c3, if_neg (by omega)]; exact ⟨trivial, rfl⟩
  rw [if_pos c3, if_pos c3]
  by_cases c4 : y < 8 * (n : Int)
  rotate_left
  · rw [if_neg c4, if_neg c4, if_neg (by omega)]; exact ⟨trivial, rfl⟩
  rw [if_pos c4, if_pos c4, if_pos (by omega)]
  obtain ⟨a, ea⟩ : ∃ a : Nat, x = (a : Int) := ⟨x.toNat, by omega⟩
  obtain ⟨b, eb⟩ : ∃ b : Nat, y = (b : Int) := ⟨y.toNat, by omega⟩
  subst ea eb
  obtain ⟨p1, p2⟩ := dp_all ⟨a % 8, Nat.mod_lt _ (by decide)⟩ ⟨b % 8, Nat.mod_lt _ (by decide)⟩
  have p1 : dpE ((a % 8 : Nat) : Int) ((b % 8 : Nat) : Int) = ((pcD (a % 8) (b % 8) : Nat) : Int) := p1
  have hu : a / 8 < n := by omega
  have hv' : b / 8 < n := by omega
  have il : ixV n (pcD (a % 8) (b % 8)) (a / 8) (b / 8) < 8 * n * n := ixV_lt (n := n) p2 hu hv'
  rw [and7, and7, shr3 (by omega), shr3 (by omega), p1, tn, tn]
  unfold q462 v462
  have ex : bop32 96 (bop32 104 (8 : Int) (bop32 96 (bop32 104 ((b / 8 : Nat) : Int) (n : Int)) ((a / 8 : Nat) : Int))) ((pcD (a % 8) (b % 8) : Nat) : Int) = ((ixV n (pcD (a % 8) (b % 8)) (a / 8) (b / 8) : Nat) : Int) := ixV_is hn p2 hu hv'
  rw [ex, e4, ad_rf, ks, ct0, if_neg (by have := rf_pos sh; omega), tn]
  clear ex p1
  exact ⟨⟨rf_pos _, rfl, by omega, by show _ < ((8 * n * n : Nat) : Int); omega⟩, ev' _ _ _ p2 hu hv'⟩
theorem v826_is (hn : n ≤ 52) (V : VsM B n h vw) {x y : Int} (hx : -1000 ≤ x ∧ x ≤ 1000) (hy : -1000 ≤ y ∧ y ≤ 1000) (ok : ∀ a b : Nat, x = (a : Int) → y = (b : Int) → a % 8 ≠ b % 8 ∧ a % 8 + b % 8 ≠ 8 ∧ a % 8 ≠ 4 ∧ b % 8 ≠ 4) : q826 B n h x y ∧ v826 B n h x y = shV n vw x y := by
  have n8 : bop32 104 (8 : Int) (n : Int) = 8 * (n : Int) := mul32 (by omega) (by omega)
  have Q : q826 B n h x y ↔ cond (tst 2 x 0) True (cond (tst 2 y 0) True (cond (tst 3 x (bop32 104 (8 : Int) (n : Int))) True (cond (tst 2 y (bop32 104 (8 : Int) (n : Int))) (0 ≤ bop32 96 (bop32 104 (8 : Int) (bop32 96 (bop32 104 (bop32 122 y (3 : Int)) (n : Int)) (bop32 122 x (3 : Int)))) (mpE (bop32 126 x (7 : Int)) (bop32 126 y (7 : Int))) ∧ bop32 96 (bop32 104 (8 : Int) (bop32 96 (bop32 104 (bop32 122 y (3 : Int)) (n : Int)) (bop32 122 x (3 : Int)))) (mpE (bop32 126 x (7 : Int)) (bop32 126 y (7 : Int))) < ((8 * n * n : Nat) : Int)) True))) := Iff.rfl
  have V' : v826 B n h x y = cond (tst 2 x 0) (-1 : Int) (cond (tst 2 y 0) (-1 : Int) (cond (tst 3 x (bop32 104 (8 : Int) (n : Int))) (-1 : Int) (cond (tst 2 y (bop32 104 (8 : Int) (n : Int))) (hv h (B + 242) (Int.toNat (bop32 96 (bop32 104 (8 : Int) (bop32 96 (bop32 104 (bop32 122 y (3 : Int)) (n : Int)) (bop32 122 x (3 : Int)))) (mpE (bop32 126 x (7 : Int)) (bop32 126 y (7 : Int)))))) (-1 : Int)))) := rfl
  rw [Q, V', n8, ct2, ct2, ct3, ct2, ct2, ct2, ct3, ct2]
  clear Q V'
  unfold shV
  by_cases c1 : x < 0
  · rw [if_pos c1, if_pos c1, if_neg (by omega)]; exact ⟨trivial, rfl⟩
  rw [if_neg c1, if_neg c1]
  by_cases c2 : y < 0
  · rw [if_pos c2, if_pos c2, if_neg (by omega)]; exact ⟨trivial, rfl⟩
  rw [if_neg c2, if_neg c2]
  by_cases c3 : x < 8 * (n : Int)
  rotate_left
  · rw [if_neg c3, if_neg c3, if_neg (by omega)]; exact ⟨trivial, rfl⟩
  rw [if_pos c3, if_pos c3]
  by_cases c4 : y < 8 * (n : Int)
  rotate_left
  · rw [if_neg c4, if_neg c4, if_neg (by omega)]; exact ⟨trivial, rfl⟩
  rw [if_pos c4, if_pos c4, if_pos (by omega)]
  obtain ⟨a, ea⟩ : ∃ a : Nat, x = (a : Int) := ⟨x.toNat, by omega⟩
  obtain ⟨b, eb⟩ : ∃ b : Nat, y = (b : Int) := ⟨y.toNat, by omega⟩
  have ok' := ok a b ea eb
  subst ea eb
  obtain ⟨p0, p1⟩ := mp_all ⟨a % 8, Nat.mod_lt _ (by decide)⟩ ⟨b % 8, Nat.mod_lt _ (by decide)⟩
  have p2 := (dp_all ⟨a % 8, Nat.mod_lt _ (by decide)⟩ ⟨b % 8, Nat.mod_lt _ (by decide)⟩).2
  have p1 : mpE ((a % 8 : Nat) : Int) ((b % 8 : Nat) : Int) = ((pcD (a % 8) (b % 8) : Nat) : Int) := p1 ok'
  have hu : a / 8 < n := by omega
  have hv' : b / 8 < n := by omega
  have il : ixV n (pcD (a % 8) (b % 8)) (a / 8) (b / 8) < 8 * n * n := ixV_lt (n := n) p2 hu hv'
  rw [and7, and7, shr3 (by omega), shr3 (by omega), p1, tn, tn]
  have ex : bop32 96 (bop32 104 (8 : Int) (bop32 96 (bop32 104 ((b / 8 : Nat) : Int) (n : Int)) ((a / 8 : Nat) : Int))) ((pcD (a % 8) (b % 8) : Nat) : Int) = ((ixV n (pcD (a % 8) (b % 8)) (a / 8) (b / 8) : Nat) : Int) := ixV_is hn p2 hu hv'
  rw [ex, tn]
  clear ex p1 p0
  exact ⟨⟨by omega, by show ((ixV n (pcD (a % 8) (b % 8)) (a / 8) (b / 8) : Nat) : Int) < _; omega⟩, V _ _ _ p2 hu hv'⟩
/-- steps of the four ways; on which sides of a line one looks -/
def diW (w : Nat) : Int := if w = 1 then 0 else 1
def djW (w : Nat) : Int := if w = 0 then 0 else if w = 3 then -1 else 1
def sgX (w : Nat) : Int := if w = 0 then 0 else 1
def sgY (w : Nat) : Int := if w = 0 then 1 else if w = 1 then 0 else if w = 2 then -1 else 1
def dcW (n w : Nat) (i j : Int) : Bool := decide (0 ≤ i ∧ 0 ≤ j ∧ i + diW w ≤ 2 * (n : Int) ∧ j + djW w ≤ 2 * (n : Int) ∧ 0 ≤ j + djW w ∧ (w < 2 ∨ (i + j) % 2 = 0))
def drW (n : Nat) (vw : Nat → Int) (w : Nat) (i j : Int) : Bool := dcW n w i j && decide (shV n vw (4 * i + 2 * diW w + sgX w) (4 * j + 2 * djW w + sgY w) ≠ shV n vw (4 * i + 2 * diW w - sgX w) (4 * j + 2 * djW w - sgY w))
theorem di_is {w : Nat} (hw : w < 4) : cond (tst 1 (w : Int) 1) (1 : Int) 0 = diW w ∧ cond (tst 1 (w : Int) 0) (cond (tst 1 (w : Int) 3) (1 : Int) (-1)) 0 = djW w := by
  rcases (by omega : w = 0 ∨ w = 1 ∨ w = 2 ∨ w = 3) with e | e | e | e <;> subst e <;> exact ⟨rfl, rfl⟩
theorem di_b {w : Nat} : 0 ≤ diW w ∧ diW w ≤ 1 ∧ -1 ≤ djW w ∧ djW w ≤ 1 := by
  unfold diW djW
  by_cases a : w = 1
  · rw [if_pos a, if_neg (by omega), if_neg (by omega)]; omega
  · rw [if_neg a]
    by_cases b : w = 0
    · rw [if_pos b]; omega
    · rw [if_neg b]
      by_cases c : w = 3
      · rw [if_pos c]; omega
      · rw [if_neg c]; omega
theorem nest5 {i j p q N X : Int} : cond (tst 2 i 0) (0 : Int) (cond (tst 2 j 0) 0 (cond (tst 4 p N) 0 (cond (tst 4 q N) 0 (cond (tst 3 q 0) X 0)))) = if (0 ≤ i ∧ 0 ≤ j ∧ p ≤ N ∧ q ≤ N ∧ 0 ≤ q) then X else 0 := by
  rw [ct2, ct2, ct4, ct4, ct3]
  by_cases c1 : i < 0
  · rw [if_pos c1, if_neg (by omega)]
  rw [if_neg c1]
  by_cases c2 : j < 0
  · rw [if_pos c2, if_neg (by omega)]
  rw [if_neg c2]
  by_cases c3 : N < p
  · rw [if_pos c3, if_neg (by omega)]
  rw [if_neg c3]
  by_cases c4 : N < q
  · rw [if_pos c4, if_neg (by omega)]
  rw [if_neg c4]
  by_cases c5 : q < 0
  · rw [if_pos c5, if_neg (by omega)]
  rw [if_neg c5, if_pos (by omega)]
theorem cnd2 {c : Bool} {p q : Prop} (h1 : p) (h2 : q) : cond c p q := by cases c <;> assumption
theorem ne01 {a b : Int} : cond (tst 0 a b) (0 : Int) 1 = if decide (a ≠ b) = true then 1 else 0 := by
  rw [ct0]
  by_cases e : a = b
  · rw [if_pos e, if_neg (by rw [decide_eq_true_iff]; exact fun z => z e)]
  · rw [if_neg e, if_pos (decide_eq_true e)]
theorem dr_if {w : Nat} {i j a b : Int} : (if (0 ≤ i ∧ 0 ≤ j ∧ i + diW w ≤ 2 * (n : Int) ∧ j + djW w ≤ 2 * (n : Int) ∧ 0 ≤ j + djW w) then (if (w < 2 ∨ (i + j) % 2 = 0) then (if decide (a ≠ b) = true then (1 : Int) else 0) else 0) else 0) = if (dcW n w i j && decide (a ≠ b)) = true then 1 else 0 := by
  unfold dcW
  by_cases c : (0 ≤ i ∧ 0 ≤ j ∧ i + diW w ≤ 2 * (n : Int) ∧ j + djW w ≤ 2 * (n : Int) ∧ 0 ≤ j + djW w)
  · by_cases e : (w < 2 ∨ (i + j) % 2 = 0)
    · rw [if_pos c, if_pos e, decide_eq_true (⟨c.1, c.2.1, c.2.2.1, c.2.2.2.1, c.2.2.2.2, e⟩ : 0 ≤ i ∧ 0 ≤ j ∧ i + diW w ≤ 2 * (n : Int) ∧ j + djW w ≤ 2 * (n : Int) ∧ 0 ≤ j + djW w ∧ (w < 2 ∨ (i + j) % 2 = 0)), Bool.true_and]
    · rw [if_pos c, if_neg e, decide_eq_false (fun z => e z.2.2.2.2.2), Bool.false_and, if_neg Bool.false_ne_true]
  · rw [if_neg c, decide_eq_false (fun z => c ⟨z.1, z.2.1, z.2.2.1, z.2.2.2.1, z.2.2.2.2.1⟩), Bool.false_and, if_neg Bool.false_ne_true]
set_option maxHeartbeats 4000000 in
theorem v466_is {w : Nat} {i j : Int} (hn : n ≤ 52) (V : VsD B n h vw) (hw : w < 4) (hi : -3 ≤ i ∧ i ≤ 200) (hj : -3 ≤ j ∧ j ≤ 200) : q466 B n h (w : Int) i j ∧ v466 B n h (w : Int) i j = if drW n vw w i j = true then 1 else 0 := by
  obtain ⟨e1, e2⟩ := di_is hw
  obtain ⟨b1, b2, b3, b4⟩ := di_b (w := w)
  have n2 : bop32 104 (2 : Int) (n : Int) = 2 * (n : Int) := mul32 (by omega) (by omega)
  have a1 : bop32 96 i (diW w) = i + diW w := add32 (by omega) (by omega)
  have a2 : bop32 96 j (djW w) = j + djW w := add32 (by omega) (by omega)
  have a3 : bop32 96 (bop32 104 (4 : Int) i) (bop32 104 (2 : Int) (diW w)) = 4 * i + 2 * diW w := by rw [mul32 (by omega) (by omega), mul32 (by omega) (by omega), add32 (by omega) (by omega)]
  have a4 : bop32 96 (bop32 104 (4 : Int) j) (bop32 104 (2 : Int) (djW w)) = 4 * j + 2 * djW w := by rw [mul32 (by omega) (by omega), mul32 (by omega) (by omega), add32 (by omega) (by omega)]
  have p1 : bop32 96 (4 * i + 2 * diW w) (1 : Int) = 4 * i + 2 * diW w + 1 := add32 (by omega) (by omega)
  have p2 : bop32 100 (4 * i + 2 * diW w) (1 : Int) = 4 * i + 2 * diW w - 1 := sub32 (by omega) (by omega)
  have p3 : bop32 96 (4 * j + 2 * djW w) (1 : Int) = 4 * j + 2 * djW w + 1 := add32 (by omega) (by omega)
  have p4 : bop32 100 (4 * j + 2 * djW w) (1 : Int) = 4 * j + 2 * djW w - 1 := sub32 (by omega) (by omega)
  have s1 : bop32 96 i j = i + j := add32 (by omega) (by omega)
  have at' : ∀ x y : Int, -1000 ≤ x ∧ x ≤ 1000 → -1000 ≤ y ∧ y ≤ 1000 → q470 B n h x y ∧ v470 B n h x y = shV n vw x y := fun x y hx hy => v470_is hn V hx hy
  have bx : ∀ e : Int, -1 ≤ e ∧ e ≤ 1 → -1000 ≤ 4 * i + 2 * diW w + e ∧ 4 * i + 2 * diW w + e ≤ 1000 := fun e he => by omega
  have by' : ∀ e : Int, -1 ≤ e ∧ e ≤ 1 → -1000 ≤ 4 * j + 2 * djW w + e ∧ 4 * j + 2 * djW w + e ≤ 1000 := fun e he => by omega
  have X0 := bx 0 (by omega)
  have X1 := bx 1 (by omega)
  have X2 : -1000 ≤ 4 * i + 2 * diW w - 1 ∧ 4 * i + 2 * diW w - 1 ≤ 1000 := bx (-1) (by omega)
  have Y0 := by' 0 (by omega)
  have Y1 := by' 1 (by omega)
  have Y2 : -1000 ≤ 4 * j + 2 * djW w - 1 ∧ 4 * j + 2 * djW w - 1 ≤ 1000 := by' (-1) (by omega)
  rw [Int.add_zero] at X0 Y0
  refine ⟨?_, ?_⟩
  · unfold q466
    simp only [e1, e2, n2, a1, a2, a3, a4, p1, p2, p3, p4, s1]
    exact cT (cT (cT (cT (cnd2 (cnd2 (cnd2 (cnd2 (cnd2 ⟨(at' _ _ X1 Y1).1, (at' _ _ X2 Y2).1⟩ ⟨(at' _ _ X1 Y2).1, (at' _ _ X2 Y1).1⟩) trivial) ⟨(at' _ _ X1 Y0).1, (at' _ _ X2 Y0).1⟩) ⟨(at' _ _ X0 Y1).1, (at' _ _ X0 Y2).1⟩) trivial))))
  · unfold v466
    simp only [e1, e2, n2, a1, a2, a3, a4, p1, p2, p3, p4, s1]
    rw [nest5, (at' _ _ X1 Y1).2, (at' _ _ X2 Y2).2, (at' _ _ X1 Y2).2, (at' _ _ X2 Y1).2, (at' _ _ X1 Y0).2, (at' _ _ X2 Y0).2, (at' _ _ X0 Y1).2, (at' _ _ X0 Y2).2]
    by_cases c : (0 ≤ i ∧ 0 ≤ j ∧ i + diW w ≤ 2 * (n : Int) ∧ j + djW w ≤ 2 * (n : Int) ∧ 0 ≤ j + djW w)
    rotate_left
    · rw [if_neg c]
      unfold drW dcW
      rw [decide_eq_false (fun z => c ⟨z.1, z.2.1, z.2.2.1, z.2.2.2.1, z.2.2.2.2.1⟩), Bool.false_and, if_neg Bool.false_ne_true]
    unfold drW
    rw [← dr_if, if_pos c, if_pos c]
    have rm : bop32 112 (i + j) (2 : Int) = (i + j) % 2 := rm32 (by omega) (by omega) (by omega)
    rw [rm]
    clear a1 a2 a3 a4 p1 p2 p3 p4 s1 n2 rm
    rcases (by omega : w = 0 ∨ w = 1 ∨ w = 2 ∨ w = 3) with e | e | e | e
    · subst e
      rw [if_pos (Or.inl (by decide)), ct1, if_pos (show ((0 : Nat) : Int) = 0 from rfl), ne01, show sgX 0 = 0 from rfl, show sgY 0 = 1 from rfl, Int.add_zero, Int.sub_zero]
    · subst e
      rw [if_pos (Or.inl (by decide)), ct1, if_neg (by decide), ct1, if_pos (show ((1 : Nat) : Int) = 1 from rfl), ne01, show sgX 1 = 1 from rfl, show sgY 1 = 0 from rfl, Int.add_zero, Int.sub_zero]
    · subst e
      rw [ct1, if_neg (by decide), ct1, if_neg (by decide), ct1 (a := (i + j) % 2)]
      by_cases z : (i + j) % 2 = 0
      · rw [if_pos z, if_pos (Or.inr z), ct1, if_neg (by decide), ct1, if_pos (show ((2 : Nat) : Int) = 2 from rfl), ne01]
        rfl
      · rw [if_neg z, if_neg (by omega), ct1, if_pos rfl]
    · subst e
      rw [ct1, if_neg (by decide), ct1, if_neg (by decide), ct1 (a := (i + j) % 2)]
      by_cases z : (i + j) % 2 = 0
      · rw [if_pos z, if_pos (Or.inr z), ct1, if_neg (by decide), ct1, if_neg (by decide), ne01]
        rfl
      · rw [if_neg z, if_neg (by omega), ct1, if_pos rfl]
theorem drB_no {w : Nat} {i j : Int} (z : dcW n w i j = false) : drW n vw w i j = false := by unfold drW; rw [z, Bool.false_and]
theorem drB_hi {w : Nat} {i j : Int} (z : 2 * (n : Int) < i ∨ 2 * (n : Int) < j) : drW n vw w i j = false := by
  obtain ⟨b1, b2, b3, b4⟩ := di_b (w := w)
  cases e : dcW n w i j
  · exact drB_no e
  · unfold dcW at e
    rw [decide_eq_true_iff] at e
    obtain ⟨e1, e2, e3, e4, e5, e6⟩ := e
    have hw : w = 3 := by
      apply Classical.byContradiction
      intro y
      have : 0 ≤ djW w := by
        unfold djW
        by_cases y0 : w = 0
        · rw [if_pos y0]; omega
        · rw [if_neg y0, if_neg y]; omega
      omega
    subst hw
    have d1 : diW 3 = 1 := rfl
    have d2 : djW 3 = -1 := rfl
    unfold drW shV
    rw [if_neg (by rw [d2, show sgY 3 = 1 from rfl]; omega), if_neg (by rw [d2, show sgY 3 = 1 from rfl]; omega)]
    rw [decide_eq_false (fun y => y rfl), Bool.and_false]
set_option maxHeartbeats 4000000 in
theorem c_isDrawn686 {w : Nat} {i j : Int} (l : LX B n h) (hd : 10 ≤ d) (hn : n ≤ 52) (V : VsM B n h vw) (hw : w < 4) (hi : -3 ≤ i ∧ i ≤ 200) (hj : -3 ≤ j ∧ j ≤ 200) : Vt 0 (cll PP (ev PP (gsF gv) B) d 686 [(2, rf (B + 149)), (0, i), (0, j), (0, (w : Int))] h) (fun v h' => h' = h ∧ v = if drW n vw w i j = true then 1 else 0) := by
  obtain ⟨e1, e2⟩ := di_is hw
  obtain ⟨b1, b2, b3, b4⟩ := di_b (w := w)
  refine Vt.inq (D := 9) hd (Nat.le_of_ble_eq_true rfl) rfl (fun d hd Q K => ?_)
  refine Ends.eq (b686_0 l (by omega)) ?_
  have x4 : cond (tst 1 (w : Int) 1) (bop32 96 i 1) i = i + diW w := by
    rw [ct1]; unfold diW
    by_cases z : w = 1
    · rw [if_pos (by omega), if_pos z, Int.add_zero]
    · rw [if_neg (by omega), if_neg z, add32 (by omega) (by omega)]
  have x5 : cond (tst 1 (w : Int) 0) (cond (tst 1 (w : Int) 3) (bop32 96 j 1) (bop32 100 j 1)) j = j + djW w := by
    rw [ct1, ct1]; unfold djW
    by_cases z : w = 0
    · rw [if_pos (by omega), if_pos z, Int.add_zero]
    · rw [if_neg (by omega), if_neg z]
      by_cases y : w = 3
      · rw [if_pos (by omega), if_pos y, sub32 (by omega) (by omega)]; omega
      · rw [if_neg (by omega), if_neg y, add32 (by omega) (by omega)]
  have n2 : bop32 104 (2 : Int) (n : Int) = 2 * (n : Int) := mul32 (by omega) (by omega)
  rw [x4, x5, n2]
  clear x4 x5
  have no : ∀ (L : List AV), drW n vw w i j = false → (∀ hh : LX B n h, ev PP (gsF gv) B d 686 93 L [] h = some ((0, (0, 0)), h)) → Ends (ev PP (gsF gv) B d 686 93 L [] h) Q := fun L z e => by
    rw [e l]
    exact Ends.sm (K _ _ ⟨rfl, by rw [z, if_neg Bool.false_ne_true]⟩)
  have nc : ¬ (0 ≤ i ∧ 0 ≤ j ∧ i + diW w ≤ 2 * (n : Int) ∧ j + djW w ≤ 2 * (n : Int) ∧ 0 ≤ j + djW w) → drW n vw w i j = false := fun z => drB_no (by unfold dcW; exact decide_eq_false (fun y => z ⟨y.1, y.2.1, y.2.2.1, y.2.2.2.1, y.2.2.2.2.1⟩))
  refine Ends.b2 (fun z => no _ (nc (by omega)) (fun hh => b686_93 hh (by omega))) (fun c1 => ?_)
  refine Ends.b2 (fun z => no _ (nc (by omega)) (fun hh => b686_93 hh (by omega))) (fun c2 => ?_)
  refine Ends.b4 (fun z => no _ (drB_hi (Or.inl z)) (fun hh => b686_93 hh (by omega))) (fun c3 => ?_)
  refine Ends.b4 (fun z => no _ (drB_hi (Or.inr z)) (fun hh => b686_93 hh (by omega))) (fun c4 => ?_)
  refine Ends.b4 (fun z => no _ (nc (by omega)) (fun hh => b686_93 hh (by omega))) (fun c5 => ?_)
  refine Ends.b2 (fun z => no _ (nc (by omega)) (fun hh => b686_93 hh (by omega))) (fun c6 => ?_)
  refine Ends.b5 (fun c7 => ?_) (fun z => no _ (nc (by omega)) (fun hh => b686_93 hh (by omega)))
  have cc : 0 ≤ i ∧ 0 ≤ j ∧ i + diW w ≤ 2 * (n : Int) ∧ j + djW w ≤ 2 * (n : Int) ∧ 0 ≤ j + djW w := ⟨c1, c2, c5, c7, c6⟩
  obtain ⟨I, eI⟩ : ∃ I : Nat, i = (I : Int) := ⟨i.toNat, by omega⟩
  obtain ⟨J, eJ⟩ : ∃ J : Nat, j = (J : Int) := ⟨j.toNat, by omega⟩
  have ys : (w < 2 ∨ (i + j) % 2 = 0) → Ends (ev PP (gsF gv) B d 686 110 [(2, rf (B + 149)), (0, i), (0, j), (0, (w : Int)), (0, i + diW w), (0, j + djW w), (9, 0), (9, 0)] [] h) Q := fun c8 => by
    have dr : drW n vw w i j = decide (shV n vw (4 * i + 2 * diW w + sgX w) (4 * j + 2 * djW w + sgY w) ≠ shV n vw (4 * i + 2 * diW w - sgX w) (4 * j + 2 * djW w - sgY w)) := by
      unfold drW dcW
      rw [decide_eq_true (⟨c1, c2, c5, c7, c6, c8⟩ : 0 ≤ i ∧ 0 ≤ j ∧ i + diW w ≤ 2 * (n : Int) ∧ j + djW w ≤ 2 * (n : Int) ∧ 0 ≤ j + djW w ∧ (w < 2 ∨ (i + j) % 2 = 0)), Bool.true_and]
    have a3 : bop32 104 (2 : Int) (bop32 96 i (i + diW w)) = 4 * i + 2 * diW w := by rw [add32 (by omega) (by omega), mul32 (by omega) (by omega)]; omega
    have a4 : bop32 104 (2 : Int) (bop32 96 j (j + djW w)) = 4 * j + 2 * djW w := by rw [add32 (by omega) (by omega), mul32 (by omega) (by omega)]; omega
    have p1 : bop32 96 (4 * i + 2 * diW w) (1 : Int) = 4 * i + 2 * diW w + 1 := add32 (by omega) (by omega)
    have p2 : bop32 100 (4 * i + 2 * diW w) (1 : Int) = 4 * i + 2 * diW w - 1 := sub32 (by omega) (by omega)
    have p3 : bop32 96 (4 * j + 2 * djW w) (1 : Int) = 4 * j + 2 * djW w + 1 := add32 (by omega) (by omega)
    have p4 : bop32 100 (4 * j + 2 * djW w) (1 : Int) = 4 * j + 2 * djW w - 1 := sub32 (by omega) (by omega)
    have fin : ∀ (L : List AV) (a b x y : Int), (a = x ∧ b = y) ∨ (a = y ∧ b = x) → drW n vw w i j = decide (x ≠ y) → Ends (some ((0, (0, cond (tst 0 a b) (0 : Int) 1)), h)) Q := fun L a b x y e dr => by
      refine Ends.sm (K _ _ ⟨rfl, ?_⟩)
      rw [dr, ne01]
      rcases e with ⟨e1, e2⟩ | ⟨e1, e2⟩
      · rw [e1, e2]
      · rw [e1, e2]
        by_cases z : x = y
        · rw [z]
        · rw [decide_eq_true z, decide_eq_true (show y ≠ x from fun w => z w.symm)]
    refine Ends.eq (b686_110 l (by omega)) ?_
    rw [a3, a4]
    clear a3 a4 nc no
    rcases (by omega : w = 0 ∨ w = 1 ∨ w = 2 ∨ w = 3) with e | e | e | e
    · subst e
      have di : diW 0 = 1 := rfl
      have dj : djW 0 = 0 := rfl
      obtain ⟨q1, v1⟩ := v826_is (x := 4 * i + 2 * diW 0) (y := 4 * j + 2 * djW 0 - 1) hn V (by omega) (by omega) (fun a b ea eb => by omega)
      obtain ⟨q2, v2⟩ := v826_is (x := 4 * i + 2 * diW 0) (y := 4 * j + 2 * djW 0 + 1) hn V (by omega) (by omega) (fun a b ea eb => by omega)
      rw [show sw686_127 ((0 : Nat) : Int) = 152 from rfl]
      refine Ends.eq (b686_152 l (by omega)) ?_
      rw [p3, p4]
      refine Ends.g q1 (Ends.g q2 (fin [] _ _ _ _ (Or.inr ⟨v1, v2⟩) ?_))
      rw [dr, show sgX 0 = 0 from rfl, show sgY 0 = 1 from rfl, Int.add_zero, Int.sub_zero]
    · subst e
      have di : diW 1 = 0 := rfl
      have dj : djW 1 = 1 := rfl
      obtain ⟨q1, v1⟩ := v826_is (x := 4 * i + 2 * diW 1 - 1) (y := 4 * j + 2 * djW 1) hn V (by omega) (by omega) (fun a b ea eb => by omega)
      obtain ⟨q2, v2⟩ := v826_is (x := 4 * i + 2 * diW 1 + 1) (y := 4 * j + 2 * djW 1) hn V (by omega) (by omega) (fun a b ea eb => by omega)
      rw [show sw686_127 ((1 : Nat) : Int) = 181 from rfl]
      refine Ends.eq (b686_181 l (by omega)) ?_
      rw [p1, p2]
      refine Ends.g q1 (Ends.g q2 (fin [] _ _ _ _ (Or.inr ⟨v1, v2⟩) ?_))
      rw [dr, show sgX 1 = 1 from rfl, show sgY 1 = 0 from rfl, Int.add_zero, Int.sub_zero]
    · subst e
      have di : diW 2 = 1 := rfl
      have dj : djW 2 = 1 := rfl
      have c8 : (i + j) % 2 = 0 := by omega
      obtain ⟨q1, v1⟩ := v826_is (x := 4 * i + 2 * diW 2 + 1) (y := 4 * j + 2 * djW 2 - 1) hn V (by omega) (by omega) (fun a b ea eb => by omega)
      obtain ⟨q2, v2⟩ := v826_is (x := 4 * i + 2 * diW 2 - 1) (y := 4 * j + 2 * djW 2 + 1) hn V (by omega) (by omega) (fun a b ea eb => by omega)
      rw [show sw686_127 ((2 : Nat) : Int) = 210 from rfl]
      refine Ends.eq (b686_210 l (by omega)) ?_
      rw [p1, p2, p3, p4]
      exact Ends.g q1 (Ends.g q2 (fin [] _ _ _ _ (Or.inl ⟨v1, v2⟩) dr))
    · subst e
      have di : diW 3 = 1 := rfl
      have dj : djW 3 = -1 := rfl
      have c8 : (i + j) % 2 = 0 := by omega
      obtain ⟨q1, v1⟩ := v826_is (x := 4 * i + 2 * diW 3 + 1) (y := 4 * j + 2 * djW 3 + 1) hn V (by omega) (by omega) (fun a b ea eb => by omega)
      obtain ⟨q2, v2⟩ := v826_is (x := 4 * i + 2 * diW 3 - 1) (y := 4 * j + 2 * djW 3 - 1) hn V (by omega) (by omega) (fun a b ea eb => by omega)
      rw [show sw686_127 ((3 : Nat) : Int) = 243 from rfl]
      refine Ends.eq (b686_243 l (by omega)) ?_
      rw [p1, p2, p3, p4]
      exact Ends.g q1 (Ends.g q2 (fin [] _ _ _ _ (Or.inl ⟨v1, v2⟩) dr))
  refine Ends.b5 (fun z => ys (Or.inl (by omega))) (fun z => ?_)
  have rm : bop32 112 (bop32 96 i j) (2 : Int) = (i + j) % 2 := by rw [add32 (by omega) (by omega)]; exact rm32 (by omega) (by omega) (by omega)
  rw [rm]
  refine Ends.b0 (fun y => ys (Or.inr y)) (fun y => ?_)
  exact Ends.sm (K _ _ ⟨rfl, by rw [drB_no (by unfold dcW; exact decide_eq_false (fun x => by rcases x.2.2.2.2.2 with s | s; omega; exact y s)), if_neg Bool.false_ne_true]⟩)
end STK
