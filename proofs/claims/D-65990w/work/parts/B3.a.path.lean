/-! L3: tool paths: what is under the tool; the desk's masks, shadow, free places -/
/-- the sample of a quarter -/
def sU (q : Nat) : Int := if q = 1 then 7 else if q = 3 then 1 else 4
def sV (q : Nat) : Int := if q = 0 then 1 else if q = 2 then 7 else 4
theorem v434_is : ∀ q : Fin 4, v434 ((q : Nat) : Int) = sU q := by decide +kernel
theorem v435_is : ∀ q : Fin 4, v435 ((q : Nat) : Int) = sV q := by decide +kernel
theorem sU_b {q : Nat} : 1 ≤ sU q ∧ sU q ≤ 7 := by unfold sU; repeat' split <;> omega
theorem sV_b {q : Nat} : 1 ≤ sV q ∧ sV q ≤ 7 := by unfold sV; repeat' split <;> omega
/-- the corner of the tool -/
def ocK (r : Nat) : Nat := (181 * r + 64) / 128
/-- is a place (eighths) under a tool that goes so far in x -/
def und (r : Nat) (x y : Int) (far : Nat) : Bool := decide ((-x ≤ 8 * (r : Int) ∧ x - 8 * (far : Int) ≤ 8 * (r : Int) ∧ y ≤ 8 * (r : Int) ∧ -y ≤ 8 * (r : Int)) ∧ y ≤ 8 * (ocK r : Int) ∧ -y ≤ 8 * (ocK r : Int) ∧ y - x ≤ 8 * (ocK r : Int) ∧ -y - x ≤ 8 * (ocK r : Int) ∧ x - 8 * (far : Int) + y ≤ 8 * (ocK r : Int) ∧ x - 8 * (far : Int) - y ≤ 8 * (ocK r : Int))
section PATHC
variable {gv : Nat → Int} {B n d r : Nat} {h : AH}
theorem mx0 {x y : Int} : v891 0 (v891 x y) = (if (if x < y then y else x) < 0 then 0 else if x < y then y else x) := by
  unfold v891
  rw [tst2, tst2]
  by_cases a : x < y
  · rw [decide_eq_true a, if_pos a]
    show cond (decide (0 < y)) y 0 = _
    by_cases b : 0 < y
    · rw [decide_eq_true b, if_neg (by omega)]; rfl
    · rw [decide_eq_false b]
      by_cases c : y < 0
      · rw [if_pos c]; rfl
      · rw [if_neg c]; show (0 : Int) = y; omega
  · rw [decide_eq_false a, if_neg a]
    show cond (decide (0 < x)) x 0 = _
    by_cases b : 0 < x
    · rw [decide_eq_true b, if_neg (by omega)]; rfl
    · rw [decide_eq_false b]
      by_cases c : x < 0
      · rw [if_pos c]; rfl
      · rw [if_neg c]; show (0 : Int) = x; omega
theorem v886_is {x : Int} (h1 : -100000 ≤ x) (h2 : x ≤ 100000) : v886 x = if x < 0 then -x else x := by
  unfold v886
  rw [tst3]
  by_cases a : x < 0
  · rw [decide_eq_true a, if_pos a]; exact neg32 (by omega) (by omega)
  · rw [decide_eq_false a, if_neg a]; rfl
theorem v328_is {x y : Int} {far : Nat} (e9 : hv h (B + 135) 9 = (r : Int)) (hr : r ≤ 8) (hx : -10000 ≤ x ∧ x ≤ 10000) (hy : -10000 ≤ y ∧ y ≤ 10000) (hf : far ≤ 60) : v328 B h x y (far : Int) = if und r x y far = true then 1 else 0 := by
  unfold v328
  rw [e9, mx0, v886_is (by omega) (by omega), neg32 (by omega) (by omega), mul32 (x := 8) (y := (far : Int)) (by omega) (by omega), sub32 (x := x) (by omega) (by omega), mul32 (x := 8) (y := (r : Int)) (by omega) (by omega), mul32 (x := 181) (by omega) (by omega), add32 (y := 64) (by omega) (by omega), show (181 * (r : Int) + 64) = ((181 * r + 64 : Nat) : Int) from by omega, show bop32 108 ((181 * r + 64 : Nat) : Int) 128 = ((ocK r : Nat) : Int) from divNN (y := 128) (by omega) (by decide)]
  have hK : ocK r ≤ 12 := by unfold ocK; omega
  rw [mul32 (x := 8) (y := ((ocK r : Nat) : Int)) (by omega) (by omega)]
  have hund : und r x y far = true ↔ (-x ≤ 8 * (r : Int) ∧ x - 8 * (far : Int) ≤ 8 * (r : Int) ∧ y ≤ 8 * (r : Int) ∧ -y ≤ 8 * (r : Int)) ∧ y ≤ 8 * (ocK r : Int) ∧ -y ≤ 8 * (ocK r : Int) ∧ y - x ≤ 8 * (ocK r : Int) ∧ -y - x ≤ 8 * (ocK r : Int) ∧ x - 8 * (far : Int) + y ≤ 8 * (ocK r : Int) ∧ x - 8 * (far : Int) - y ≤ 8 * (ocK r : Int) := by unfold und; rw [decide_eq_true_eq]
  generalize ocK r = K at hK hund ⊢
  obtain ⟨e, he⟩ : ∃ e : Int, e = (if (if -x < x - 8 * (far : Int) then x - 8 * (far : Int) else -x) < 0 then 0 else if -x < x - 8 * (far : Int) then x - 8 * (far : Int) else -x) := ⟨_, rfl⟩
  obtain ⟨b, hb⟩ : ∃ b : Int, b = (if y < 0 then -y else y) := ⟨_, rfl⟩
  rw [← he, ← hb]
  have he' : (e = 0 ∨ e = -x ∨ e = x - 8 * (far : Int)) ∧ 0 ≤ e ∧ -x ≤ e ∧ x - 8 * (far : Int) ≤ e := by
    rw [he]; split <;> split <;> omega
  have hb' : (b = y ∨ b = -y) ∧ y ≤ b ∧ -y ≤ b := by rw [hb]; split <;> omega
  clear he hb
  rw [tst4, tst4, tst4, add32 (by omega) (by omega)]
  by_cases c1 : 8 * (r : Int) < e
  · rw [decide_eq_true c1, if_neg (fun z => by have := hund.mp z; omega)]; rfl
  by_cases c2 : 8 * (r : Int) < b
  · rw [decide_eq_false c1, decide_eq_true c2, if_neg (fun z => by have := hund.mp z; omega)]; rfl
  by_cases c3 : 8 * (K : Int) < e + b
  · rw [decide_eq_false c1, decide_eq_false c2, decide_eq_true c3, if_neg (fun z => by have := hund.mp z; omega)]; rfl
  · rw [decide_eq_false c1, decide_eq_false c2, decide_eq_false c3, if_pos (hund.mpr (by omega))]; rfl
/-- bits of a mask -/
def MkB (r q : Nat) (v : Int) (far : Nat) (m : Int) : Prop := cn 1 m ∧ ∀ j, j < 64 → tb m j = (decide (j < 2 * r + far) && und r (8 * ((j : Int) - r) + sU q) (8 * v + sV q) far)
theorem c_bits324 {q far : Nat} {v : Int} (l : LX B n h) (hd : 10 ≤ d) (e9 : hv h (B + 135) 9 = (r : Int)) (hr : r ≤ 8) (hq : q < 4) (hv8 : -8 ≤ v ∧ v ≤ 8) (hf : far ≤ 1) : Vt 1 (cll PP (ev PP (gsF gv) B) d 324 [(2, rf (B + 135)), (0, (q : Int)), (0, v), (0, (far : Int))] h) (fun x h' => h' = h ∧ MkB r q v far x) := by
  have su := sU_b (q := q)
  have sv := sV_b (q := q)
  refine Vt.inq (D := 9) hd (Nat.le_of_ble_eq_true rfl) rfl (fun d hd Q K => ?_)
  have key : ∀ (c i : Nat) (m : Int), i + c = 2 * r + far → cn 1 m → (∀ j, j < 64 → tb m j = (decide (j < i) && und r (8 * ((j : Int) - r) + sU q) (8 * v + sV q) far)) → Ends (ev PP (gsF gv) B d 324 10 [(2, rf (B + 135)), (0, (q : Int)), (0, v), (0, (far : Int)), (1, m), (9, 0), (0, (i : Int) - r)] [] h) Q := by
    intro c
    induction c with
    | zero =>
      intro i m hi cm hm
      refine Ends.eq (b324_10 (n := n) (by (repeat' first | assumption | refine LX.setF _ _ ?_ (by decide +kernel) | refine LX.setS ?_ rfl | refine LX.setA ?_ (by first | assumption | omega))) (by first | assumption | omega)) ?_
      rw [e9, add32 (by omega) (by omega)]
      refine Ends.b3 (fun _ => Ends.sm (K _ _ ⟨rfl, cm, fun j hj => ?_⟩)) (fun z => by omega)
      rw [hm j hj, show i = 2 * r + far by omega]
    | succ c ih =>
      intro i m hi cm hm
      have nx : ∀ m', cn 1 m' → (∀ j, j < 64 → tb m' j = (decide (j < i + 1) && und r (8 * ((j : Int) - r) + sU q) (8 * v + sV q) far)) → Ends (ev PP (gsF gv) B d 324 62 [(2, rf (B + 135)), (0, (q : Int)), (0, v), (0, (far : Int)), (1, m'), (9, 0), (0, (i : Int) - r)] [] h) Q := fun m' c' h' => by
        refine Ends.eq (b324_62 (n := n) (by decide) l (by omega)) ?_
        rw [inc32 (by omega) (by omega), show (i : Int) - r + 1 = ((i + 1 : Nat) : Int) - r by omega]
        exact ih (i + 1) m' (by omega) c' h'
      refine Ends.eq (b324_10 (n := n) (by (repeat' first | assumption | refine LX.setF _ _ ?_ (by decide +kernel) | refine LX.setS ?_ rfl | refine LX.setA ?_ (by first | assumption | omega))) (by first | assumption | omega)) ?_
      rw [e9, add32 (x := (r : Int)) (by omega) (by omega), v434_is ⟨q, hq⟩, v435_is ⟨q, hq⟩, mul32 (x := 8) (y := (i : Int) - r) (by omega) (by omega), mul32 (x := 8) (y := v) (by omega) (by omega), add32 (x := 8 * ((i : Int) - r)) (by simp only; omega) (by simp only; omega), add32 (x := 8 * v) (by simp only; omega) (by simp only; omega), v328_is e9 hr (by simp only; omega) (by simp only; omega) (by omega)]
      refine Ends.b3 (fun z => by omega) (fun _ => ?_)
      have e : ∀ j, (j < i + 1 ↔ (j < i ∨ j = i)) := fun j => by omega
      by_cases hu : und r (8 * ((i : Int) - r) + sU q) (8 * v + sV q) far = true
      · rw [if_pos hu]
        refine Ends.b0 (fun z => absurd z (by decide)) (fun _ => ?_)
        rw [add32 (x := (i : Int) - r) (by omega) (by omega), show (i : Int) - r + r = (i : Int) by omega]
        refine nx _ cn_bop64 (fun j hj => ?_)
        rw [tb_or, hm j hj, one_bit (by omega) hj]
        by_cases z : j = i
        · rw [z, hu]; simp
        · by_cases y : j < i
          · simp [z, y, show j < i + 1 by omega]
          · simp [z, y, show ¬ j < i + 1 by omega]
      · rw [if_neg hu]
        refine Ends.b0 (fun _ => nx m cm (fun j hj => ?_)) (fun z => absurd rfl z)
        rw [hm j hj]
        by_cases z : j = i
        · rw [z]; simp [Bool.eq_false_iff.mpr hu]
        · by_cases y : j < i
          · simp [y, show j < i + 1 by omega]
          · simp [y, show ¬ j < i + 1 by omega]
  refine Ends.eq (b324_0 (n := n) (by (repeat' first | assumption | refine LX.setF _ _ ?_ (by decide +kernel) | refine LX.setS ?_ rfl | refine LX.setA ?_ (by first | assumption | omega))) (by first | assumption | omega)) ?_
  rw [e9, neg32 (by omega) (by omega), show (-(r : Int)) = ((0 : Nat) : Int) - r by omega]
  exact key (2 * r + far) 0 0 (by omega) ⟨by decide, by decide⟩ (fun j _ => by rw [tb_0]; simp)
/-- all masks of a tool -/
def MkA (B : Nat) (h : AH) (r a far : Nat) : Prop := ∀ q w, q < 4 → w < 2 * r → MkB r q ((w : Int) - r) far (hv h (B + a) (16 * q + w))
/-- something in the shadow is under the tool -/
def blk (n r : Nat) (Q : Nat → Nat → Nat → Bool) (X Y far : Nat) : Prop := ∃ q y x, q < 4 ∧ y < n ∧ x < n ∧ Q q y x = true ∧ und r (8 * ((x : Int) - X) + sU q) (8 * ((y : Int) - Y) + sV q) far = true
theorem c_isFree327 {a X Y far : Nat} {Q : Nat → Nat → Nat → Bool} (l : LX B n h) (hd : 10 ≤ d) (hn : n ≤ 52) (e9 : hv h (B + 135) 9 = (r : Int)) (hr : r ≤ 8) (ha : a = 139 ∨ a = 140) (hf : far ≤ 1) (mk : MkA B h r a far) (qs : Qua n h (B + 141) Q) (hX : X ≤ n) (hY : Y ≤ n) :
    Vt 0 (cll PP (ev PP (gsF gv) B) d 327 [(2, rf (B + 135)), (2, rf (B + a)), (0, (X : Int)), (0, (Y : Int))] h) (fun v h' => h' = h ∧ ((v = 1 ∧ ¬ blk n r Q X Y far) ∨ (v = 0 ∧ blk n r Q X Y far))) := by
  refine Vt.inq (D := 9) hd (Nat.le_of_ble_eq_true rfl) rfl (fun d hd P K => ?_)
  have ka : hk h (B + a) = (3, 64) := by rcases ha with rfl | rfl; exact l.1 139 _ rfl; exact l.1 140 _ rfl
  -- rows of quarter q that have been looked at: those of numbers below Y - r + w
  have done : ∀ (c q : Nat) (u5 : AV), q + c = 4 → (∀ q' y x, q' < q → y < n → x < n → Q q' y x = true → und r (8 * ((x : Int) - X) + sU q') (8 * ((y : Int) - Y) + sV q') far = false) → Ends (ev PP (gsF gv) B d 327 3 [(2, rf (B + 135)), (2, rf (B + a)), (0, (X : Int)), (0, (Y : Int)), (0, (q : Int)), u5] [] h) P := by
    intro c
    induction c with
    | zero =>
      intro q u5 hq no
      obtain rfl : q = 4 := by omega
      refine Ends.eq (b327_3 (n := n) (by (repeat' first | assumption | refine LX.setF _ _ ?_ (by decide +kernel) | refine LX.setS ?_ rfl | refine LX.setA ?_ (by first | assumption | omega))) (by first | assumption | omega)) ?_
      refine Ends.b3 (fun _ => Ends.sm (K _ _ ⟨rfl, Or.inl ⟨rfl, ?_⟩⟩)) (fun z => absurd z (by decide))
      rintro ⟨q', y, x, h1, h2, h3, h4, h5⟩
      rw [no q' y x h1 h2 h3 h4] at h5
      exact Bool.false_ne_true h5
    | succ c ih =>
      intro q u5 hq no
      have hq4 : q < 4 := by omega
      have su := sU_b (q := q)
      have sv := sV_b (q := q)
      refine Ends.eq (b327_3 (n := n) (by (repeat' first | assumption | refine LX.setF _ _ ?_ (by decide +kernel) | refine LX.setS ?_ rfl | refine LX.setA ?_ (by first | assumption | omega))) (by first | assumption | omega)) ?_
      refine Ends.b3 (fun z => by omega) (fun _ => ?_)
      rw [e9, neg32 (by omega) (by omega), show (-(r : Int)) = ((0 : Nat) : Int) - r by omega]
      have rows : ∀ (e w : Nat), w + e = 2 * r → (∀ y x, y < n → x < n → (y : Int) < (Y : Int) - r + w → Q q y x = true → und r (8 * ((x : Int) - X) + sU q) (8 * ((y : Int) - Y) + sV q) far = false) → Ends (ev PP (gsF gv) B d 327 16 [(2, rf (B + 135)), (2, rf (B + a)), (0, (X : Int)), (0, (Y : Int)), (0, (q : Int)), (0, (w : Int) - r)] [] h) P := by
        intro e
        induction e with
        | zero =>
          intro w hw nw
          refine Ends.eq (b327_16 (n := n) (by (repeat' first | assumption | refine LX.setF _ _ ?_ (by decide +kernel) | refine LX.setS ?_ rfl | refine LX.setA ?_ (by first | assumption | omega))) (by first | assumption | omega)) ?_
          rw [e9, w_succ (by omega)]
          refine Ends.b3 (fun _ => ih (q + 1) _ (by omega) (fun q' y x h1 h2 h3 h4 => ?_)) (fun z => by omega)
          by_cases z : q' = q
          · rw [z] at h4 ⊢
            by_cases zy : (y : Int) < (Y : Int) - r + w
            · exact nw y x h2 h3 zy h4
            · unfold und
              rw [decide_eq_false]
              omega
          · exact no q' y x (by omega) h2 h3 h4
        | succ e ihw =>
          intro w hw nw
          have nx : (∀ y x, y < n → x < n → (y : Int) < (Y : Int) - r + (w + 1 : Nat) → Q q y x = true → und r (8 * ((x : Int) - X) + sU q) (8 * ((y : Int) - Y) + sV q) far = false) → Ends (ev PP (gsF gv) B d 327 95 [(2, rf (B + 135)), (2, rf (B + a)), (0, (X : Int)), (0, (Y : Int)), (0, (q : Int)), (0, (w : Int) - r)] [] h) P := fun nw' => by
            refine Ends.eq (b327_95 (n := n) (by (repeat' first | assumption | refine LX.setF _ _ ?_ (by decide +kernel) | refine LX.setS ?_ rfl | refine LX.setA ?_ (by first | assumption | omega))) (by first | assumption | omega)) ?_
            rw [inc32 (by omega) (by omega), show (w : Int) - r + 1 = ((w + 1 : Nat) : Int) - r by omega]
            exact ihw (w + 1) (by omega) nw'
          have same : (¬ (0 ≤ (Y : Int) - r + w ∧ (Y : Int) - r + w < n)) → ∀ y x, y < n → x < n → (y : Int) < (Y : Int) - r + (w + 1 : Nat) → Q q y x = true → und r (8 * ((x : Int) - X) + sU q) (8 * ((y : Int) - Y) + sV q) far = false := fun z y x h1 h2 h3 h4 => nw y x h1 h2 (by omega) h4
          refine Ends.eq (b327_16 (n := n) (by (repeat' first | assumption | refine LX.setF _ _ ?_ (by decide +kernel) | refine LX.setS ?_ rfl | refine LX.setA ?_ (by first | assumption | omega))) (by first | assumption | omega)) ?_
          rw [e9, add32 (x := (Y : Int)) (by omega) (by omega)]
          refine Ends.b3 (fun z => by omega) (fun _ => Ends.b2 (fun z => nx (same (by omega))) (fun z1 => Ends.b2 (fun z2 => ?_) (fun z2 => nx (same (by omega)))))
          obtain ⟨yy, hy⟩ : ∃ y : Nat, (y : Int) = (Y : Int) + ((w : Int) - r) := ⟨((Y : Int) + ((w : Int) - r)).toNat, by omega⟩
          have hyn : yy < n := by omega
          have ql := q_lt (n := n) hq4 hyn
          have qn : q * n ≤ 208 := by
            have := Nat.mul_le_mul (show q ≤ 3 by omega) hn
            omega
          rw [show bop32 104 (q : Int) (n : Int) = ((q * n : Nat) : Int) from mulNN (by omega), add32 (x := ((q * n : Nat) : Int)) (by omega) (by omega), add32 (y := (w : Int) - r) (by omega) (by omega), show ((q * n : Nat) : Int) + (Y : Int) + ((w : Int) - r) = ((q * n + yy : Nat) : Int) by omega, show bop32 104 (16 : Int) (q : Int) = ((16 * q : Nat) : Int) from mulNN (x := 16) (by omega), add32 (x := ((16 * q : Nat) : Int)) (by omega) (by omega), add32 (x := ((16 * q : Nat) : Int) + ((w : Int) - r)) (by omega) (by omega), show ((16 * q : Nat) : Int) + ((w : Int) - r) + (r : Int) = ((16 * q + w : Nat) : Int) by omega, tn, tn, sub32 (x := (X : Int)) (by omega) (by omega)]
          simp only [ad_rf, ka]
          have m1 := mk q w hq4 (by omega)
          have q1 := qs.2 q yy hq4 hyn
          have sb : ∀ x, x < 64 → tb (v355 (hv h (B + a) (16 * q + w)) ((X : Int) - r)) x = (decide (0 ≤ (x : Int) - ((X : Int) - r) ∧ (x : Int) - ((X : Int) - r) < ((2 * r + far : Nat) : Int)) && und r (8 * ((((x : Int) - ((X : Int) - r)).toNat : Int) - r) + sU q) (8 * ((w : Int) - r) + sV q) far) := fun x hx => shifted_bits (n := 2 * r + far) (T := fun j => und r (8 * ((j : Int) - r) + sU q) (8 * ((w : Int) - r) + sV q) far) (by omega) m1.2 (by omega) (by omega) hx
          have hz : bop64 127 (hv h (B + 141) (q * n + yy)) (v355 (hv h (B + a) (16 * q + w)) ((X : Int) - r)) = 0 ↔ ∀ x, x < n → Q q yy x = true → und r (8 * ((x : Int) - X) + sU q) (8 * ((yy : Int) - Y) + sV q) far = false := by
            rw [tb_z cn_bop64]
            constructor
            · intro z x hx hQ
              have := z x (by omega)
              rw [tb_and, q1.2 x (by omega), decide_eq_true hx, hQ, Bool.true_and, Bool.true_and, sb x (by omega)] at this
              by_cases rg : 0 ≤ (x : Int) - ((X : Int) - r) ∧ (x : Int) - ((X : Int) - r) < ((2 * r + far : Nat) : Int)
              · rw [decide_eq_true rg, Bool.true_and] at this
                rw [show 8 * ((x : Int) - X) + sU q = 8 * ((((x : Int) - ((X : Int) - r)).toNat : Int) - r) + sU q by omega, show 8 * ((yy : Int) - Y) + sV q = 8 * ((w : Int) - r) + sV q by omega]
                exact this
              · unfold und
                rw [decide_eq_false]
                omega
            · intro z x hx
              rw [tb_and, q1.2 x hx, sb x hx]
              by_cases hxn : x < n
              · cases hQ : Q q yy x
                · simp
                · have := z x hxn hQ
                  by_cases rg : 0 ≤ (x : Int) - ((X : Int) - r) ∧ (x : Int) - ((X : Int) - r) < ((2 * r + far : Nat) : Int)
                  · rw [show 8 * ((x : Int) - X) + sU q = 8 * ((((x : Int) - ((X : Int) - r)).toNat : Int) - r) + sU q by omega, show 8 * ((yy : Int) - Y) + sV q = 8 * ((w : Int) - r) + sV q by omega] at this
                    rw [this]; simp
                  · rw [decide_eq_false rg]; simp
              · rw [decide_eq_false hxn]; simp
          refine Ends.g ⟨by omega, by omega⟩ (Ends.g ?_ ?_)
          · exact ⟨rf_pos _, by trivial, by omega, by show ((16 * q + w : Nat) : Int) < ((64 : Nat) : Int); omega⟩
          refine Ends.b0 (fun z => ?_) (fun z => ?_)
          · have z0 := hz.mp (cmp64_z.mp z)
            refine nx (fun y x h1 h2 h3 h4 => ?_)
            by_cases e : y = yy
            · rw [e] at h4 ⊢; exact z0 x h2 h4
            · exact nw y x h1 h2 (by omega) h4
          · have z0 : ¬ ∀ x, x < n → Q q yy x = true → und r (8 * ((x : Int) - X) + sU q) (8 * ((yy : Int) - Y) + sV q) far = false := fun w => z (cmp64_z.mpr (hz.mpr w))
            refine Ends.sm (K _ _ ⟨rfl, Or.inr ⟨rfl, Classical.byContradiction (fun nb => z0 (fun x hx hQ => ?_))⟩⟩)
            cases hu : und r (8 * ((x : Int) - X) + sU q) (8 * ((yy : Int) - Y) + sV q) far
            · rfl
            · exact absurd ⟨q, yy, x, hq4, hyn, hx, hQ, hu⟩ nb
      exact rows (2 * r) 0 (by omega) (fun y x h1 h2 h3 h4 => by unfold und; rw [decide_eq_false]; omega)
  refine Ends.eq (b327_0 (n := n) (by (repeat' first | assumption | refine LX.setF _ _ ?_ (by decide +kernel) | refine LX.setS ?_ rfl | refine LX.setA ?_ (by first | assumption | omega))) (by first | assumption | omega)) ?_
  exact done 4 0 _ rfl (fun q' y x h1 => absurd h1 (by omega))
/-- in the shadow above a level -/
def ShP (n : Nat) (S : Nat → Bool) (z0 q y x : Nat) : Prop := ∃ t z, t < 24 ∧ z0 ≤ z ∧ z < n ∧ quT 2 t = q ∧ S (gI n x y z t) = true
/-- of the sorts below t, of sort t the layers from z0 below z, of layer z the rows below y -/
def shD (z0 t z y : Nat) (t' z' y' : Nat) : Prop := (t' < t ∨ (t' = t ∧ (z' < z ∨ (z' = z ∧ y' < y)))) ∧ z0 ≤ z'
def ShI (n : Nat) (S : Nat → Bool) (z0 t z y : Nat) (Q : Nat → Nat → Nat → Bool) : Prop := ∀ q y' x, q < 4 → y' < n → x < n → (Q q y' x = true ↔ ∃ t' z', t' < 24 ∧ z' < n ∧ shD z0 t z y t' z' y' ∧ quT 2 t' = q ∧ S (gI n x y' z' t') = true)
theorem ShI.congr {S : Nat → Bool} {z0 t z y t2 z2 y2 : Nat} {Q : Nat → Nat → Nat → Bool} (s : ShI n S z0 t z y Q) (e : ∀ t' z' y', t' < 24 → z' < n → y' < n → (shD z0 t z y t' z' y' ↔ shD z0 t2 z2 y2 t' z' y')) : ShI n S z0 t2 z2 y2 Q := fun q y' x hq hy hx => by
  rw [s q y' x hq hy hx]
  constructor
  · rintro ⟨t', z', a, b, c, e1, e2⟩; exact ⟨t', z', a, b, (e t' z' y' a b hy).mp c, e1, e2⟩
  · rintro ⟨t', z', a, b, c, e1, e2⟩; exact ⟨t', z', a, b, (e t' z' y' a b hy).mpr c, e1, e2⟩
theorem qz_q : ∀ t : Fin 24, quT 2 t < 4 := by decide +kernel
theorem c_shadow332 {a z0 : Nat} {S : Nat → Bool} (l : LX B n h) (hd : 10 ≤ d) (hn0 : 0 < n) (hn : n ≤ 52) (m : TbC B h) (sa : SG n h a S) (ha : a = B + 117 ∨ B + 246 ≤ a) (hz0 : z0 ≤ n) :
    Vd (cll PP (ev PP (gsF gv) B) d 332 [(2, rf (B + 135)), (2, rf a), (0, (z0 : Int))] h) (fun h' => Agr (fun c _ => c = B + 141) h h' ∧ ∃ Q, Qua n h' (B + 141) Q ∧ ∀ q y x, q < 4 → y < n → x < n → (Q q y x = true ↔ ShP n S z0 q y x)) := by
  have k141 : hk h (B + 141) = (3, 4 * n) := l.1 141 _ rfl
  refine Vd.inq (D := 9) hd (Nat.le_of_ble_eq_true rfl) rfl (fun d hd P K => ?_)
  have n4 : bop32 104 (4 : Int) (n : Int) = ((4 * n : Nat) : Int) := mulNN (x := 4) (by omega)
  have sorts : ∀ (c t : Nat) (q : AH) (Q : Nat → Nat → Nat → Bool) (u4 u5 u6 : AV), t + c = 24 → LX B n q → Agr (fun c _ => c = B + 141) h q → Qua n q (B + 141) Q → ShI n S z0 t 0 0 Q → Ends (ev PP (gsF gv) B d 332 27 [(2, rf (B + 135)), (2, rf a), (0, (z0 : Int)), (0, (t : Int)), u4, u5, u6] [] q) P := by
    intro c
    induction c with
    | zero =>
      intro t q Q u4 u5 u6 ht lq gq qs si
      obtain rfl : t = 24 := by omega
      refine Ends.eq (b332_27 (n := n) (by (repeat' first | assumption | refine LX.setF _ _ ?_ (by decide +kernel) | refine LX.setS ?_ rfl | refine LX.setA ?_ (by first | assumption | omega))) (by first | assumption | omega)) ?_
      refine Ends.b3 (fun _ => Ends.sm (K _ ⟨gq, Q, qs, fun q y x hq hy hx => ?_⟩)) (fun z => absurd z (by decide))
      rw [si q y x hq hy hx]
      constructor
      · rintro ⟨t', z', a1, b1, c1, e1, e2⟩; exact ⟨t', z', a1, c1.2, b1, e1, e2⟩
      · rintro ⟨t', z', a1, b1, c1, e1, e2⟩; exact ⟨t', z', a1, c1, ⟨Or.inl a1, b1⟩, e1, e2⟩
    | succ c ih =>
      intro t q Q u4 u5 u6 ht lq gq qs si
      have ht24 : t < 24 := by omega
      have mq : TbC B q := m.ext l.2.2 gq.ext (fun c k h1 h2 z => by omega)
      have eq46 : hv q (B + 46) (48 + t) = ((quT 2 t : Nat) : Int) := (mq.1 t ht24).2.2.2.2.2.2.2 2 (by decide)
      have q4 : quT 2 t < 4 := qz_q ⟨t, ht24⟩
      have qn : quT 2 t * n ≤ 156 := by
        have := Nat.mul_le_mul (show quT 2 t ≤ 3 by omega) hn
        omega
      refine Ends.eq (b332_27 (n := n) (by (repeat' first | assumption | refine LX.setF _ _ ?_ (by decide +kernel) | refine LX.setS ?_ rfl | refine LX.setA ?_ (by first | assumption | omega))) (by first | assumption | omega)) ?_
      rw [show bop32 96 (48 : Int) (t : Int) = ((48 + t : Nat) : Int) from addNN (x := 48) (by omega), tn, eq46, show bop32 104 ((quT 2 t : Nat) : Int) (n : Int) = ((quT 2 t * n : Nat) : Int) from mulNN (by omega)]
      refine Ends.b3 (fun z => by omega) (fun _ => Ends.g ⟨by omega, by omega⟩ ?_)
      have lays : ∀ (c2 z : Nat) (q2 : AH) (Q2 : Nat → Nat → Nat → Bool) (u6 : AV), z + c2 = n → z0 ≤ z → LX B n q2 → Agr (fun c _ => c = B + 141) h q2 → Qua n q2 (B + 141) Q2 → ShI n S z0 t z 0 Q2 → Ends (ev PP (gsF gv) B d 332 55 [(2, rf (B + 135)), (2, rf a), (0, (z0 : Int)), (0, (t : Int)), (0, ((quT 2 t * n : Nat) : Int)), (0, (z : Int)), u6] [] q2) P := by
        intro c2
        induction c2 with
        | zero =>
          intro z q2 Q2 u6 hz hz2 l2 g2 qs2 si2
          obtain rfl : n = z := by omega
          refine Ends.eq (b332_55 (n := n) (by (repeat' first | assumption | refine LX.setF _ _ ?_ (by decide +kernel) | refine LX.setS ?_ rfl | refine LX.setA ?_ (by first | assumption | omega))) (by first | assumption | omega)) ?_
          rw [w_succ (by omega)]
          exact Ends.b3 (fun _ => ih (t + 1) q2 Q2 _ _ _ (by omega) l2 g2 qs2 (si2.congr (fun t' z' y' h1 h2 h3 => by unfold shD; omega))) (fun z => by omega)
        | succ c2 ihz =>
          intro z q2 Q2 u6 hz hz2 l2 g2 qs2 si2
          have hzn : z < n := by omega
          refine Ends.eq (b332_55 (n := n) (by (repeat' first | assumption | refine LX.setF _ _ ?_ (by decide +kernel) | refine LX.setS ?_ rfl | refine LX.setA ?_ (by first | assumption | omega))) (by first | assumption | omega)) ?_
          refine Ends.b3 (fun z => by omega) (fun _ => ?_)
          have rws : ∀ (c3 y : Nat) (q3 : AH) (Q3 : Nat → Nat → Nat → Bool), y + c3 = n → LX B n q3 → Agr (fun c _ => c = B + 141) h q3 → Qua n q3 (B + 141) Q3 → ShI n S z0 t z y Q3 → Ends (ev PP (gsF gv) B d 332 67 [(2, rf (B + 135)), (2, rf a), (0, (z0 : Int)), (0, (t : Int)), (0, ((quT 2 t * n : Nat) : Int)), (0, (z : Int)), (0, (y : Int))] [] q3) P := by
            intro c3
            induction c3 with
            | zero =>
              intro y q3 Q3 hy l3 g3 qs3 si3
              obtain rfl : n = y := by omega
              refine Ends.eq (b332_67 (n := n) (by (repeat' first | assumption | refine LX.setF _ _ ?_ (by decide +kernel) | refine LX.setS ?_ rfl | refine LX.setA ?_ (by first | assumption | omega))) (by first | assumption | omega)) ?_
              rw [w_succ (by omega)]
              exact Ends.b3 (fun _ => ihz (z + 1) q3 Q3 _ (by omega) (by omega) l3 g3 qs3 (si3.congr (fun t' z' y' h1 h2 h3 => by unfold shD; omega))) (fun z => by omega)
            | succ c3 ihy =>
              intro y q3 Q3 hy l3 g3 qs3 si3
              have hyn : y < n := by omega
              have ql := q_lt (n := n) q4 hyn
              have rl := rw3_lt (n := n) ht24 hzn hyn
              have s3 := sa.agr g3 (fun k z => by omega)
              have ka : hk q3 a = (3, 24 * n * n) := s3.1
              obtain ⟨r1, r2⟩ := s3.2 _ rl
              obtain ⟨p1, p2⟩ := qs3.2 _ _ q4 hyn
              refine Ends.eq (b332_67 (n := n) (by (repeat' first | assumption | refine LX.setF _ _ ?_ (by decide +kernel) | refine LX.setS ?_ rfl | refine LX.setA ?_ (by first | assumption | omega))) (by first | assumption | omega)) ?_
              rw [row_eq hn ht24 hzn hyn, addNN (by omega), tn, tn, w_succ (i := y) (by omega), an1]
              simp only [ad_rf, ka]
              refine Ends.b3 (fun z => by omega) (fun _ => Ends.g ⟨by omega, by omega⟩ (Ends.g ⟨rf_pos _, by trivial, by omega, by show ((rw3 n t z y : Nat) : Int) < ((24 * n * n : Nat) : Int); omega⟩ ?_))
              refine ihy (y + 1) (hset q3 (B + 141) (quT 2 t * n + y) (bop64 129 (hv q3 (B + 141) (quT 2 t * n + y)) (hv q3 a (rw3 n t z y)))) (fun q y' x => Q3 q y' x || (decide (q = quT 2 t ∧ y' = y) && S (gI n x y z t))) (by omega) (LX.setA (t := 1) l3 (by rw [g3.hk]; rw [k141])) (g3.set rfl) ⟨by show hk q3 (B + 141) = _; rw [g3.hk]; exact k141, fun q y' hq hy' => ?_⟩ (fun q y' x hq hy' hx => ?_)
              · by_cases z : q = quT 2 t ∧ y' = y
                · rw [z.1, z.2, hv_set_at]
                  refine ⟨cn_bop64, fun x hx => ?_⟩
                  rw [tb_or, p2 x hx, r2 x hx, onK_at hzn hyn]
                  cases decide (x < n) <;> simp
                · have ne : q * n + y' ≠ quT 2 t * n + y := fun w => z (by
                    have h1 := dm (a := q) hy'
                    have h2 := dm (a := quT 2 t) hyn
                    rw [w] at h1
                    omega)
                  rw [hv_set_ne (fun w => ne w.2)]
                  obtain ⟨w1, w2⟩ := qs3.2 q y' hq hy'
                  refine ⟨w1, fun x hx => ?_⟩
                  rw [w2 x hx]
                  dsimp only
                  rw [decide_eq_false z]
                  simp
              · rw [Bool.or_eq_true, Bool.and_eq_true, decide_eq_true_eq, si3 q y' x hq hy' hx]
                constructor
                · rintro (⟨t', z', a1, b1, c1, e1, e2⟩ | ⟨⟨e1, e2⟩, e3⟩)
                  · exact ⟨t', z', a1, b1, by unfold shD at c1 ⊢; omega, e1, e2⟩
                  · exact ⟨t, z, ht24, hzn, by unfold shD; omega, e1.symm, by rw [e2]; exact e3⟩
                · rintro ⟨t', z', a1, b1, c1, e1, e2⟩
                  by_cases w : t' = t ∧ z' = z ∧ y' = y
                  · obtain ⟨w1, w2, w3⟩ := w
                    subst w1 w2 w3
                    exact Or.inr ⟨⟨e1.symm, rfl⟩, e2⟩
                  · exact Or.inl ⟨t', z', a1, b1, by unfold shD at c1 ⊢; omega, e1, e2⟩
          exact rws n 0 q2 Q2 (by omega) l2 g2 qs2 si2
      exact lays (n - z0) z0 q Q _ (by omega) (Nat.le_refl _) lq gq qs (si.congr (fun t' z' y' h1 h2 h3 => by unfold shD; omega))
  have clr : ∀ (c k : Nat) (q : AH) (u4 u5 u6 : AV), k + c = 4 * n → LX B n q → Agr (fun c _ => c = B + 141) h q → (∀ j, j < k → hv q (B + 141) j = 0) → Ends (ev PP (gsF gv) B d 332 2 [(2, rf (B + 135)), (2, rf a), (0, (z0 : Int)), (0, (k : Int)), u4, u5, u6] [] q) P := by
    intro c
    induction c with
    | zero =>
      intro k q u4 u5 u6 hk' lq gq lo
      refine Ends.eq (b332_2 (n := n) (by (repeat' first | assumption | refine LX.setF _ _ ?_ (by decide +kernel) | refine LX.setS ?_ rfl | refine LX.setA ?_ (by first | assumption | omega))) (by first | assumption | omega)) ?_
      rw [n4]
      refine Ends.b3 (fun _ => sorts 24 0 q (fun _ _ _ => false) _ _ _ rfl lq gq ⟨by rw [gq.hk]; exact k141, fun q' v hq' hv' => ?_⟩ (fun q' y x hq' hy hx => ?_)) (fun z => by omega)
      · rw [lo _ (by have := q_lt (n := n) hq' hv'; omega)]
        exact ⟨⟨by decide, by decide⟩, fun x hx => by rw [tb_0]; simp⟩
      · constructor
        · intro z; exact absurd z Bool.false_ne_true
        · rintro ⟨t', z', a1, b1, c1, e1, e2⟩
          unfold shD at c1
          omega
    | succ c ih =>
      intro k q u4 u5 u6 hk' lq gq lo
      refine Ends.eq (b332_2 (n := n) (by (repeat' first | assumption | refine LX.setF _ _ ?_ (by decide +kernel) | refine LX.setS ?_ rfl | refine LX.setA ?_ (by first | assumption | omega))) (by first | assumption | omega)) ?_
      rw [n4, tn, an1, w_succ (by omega)]
      refine Ends.b3 (fun z => by omega) (fun _ => Ends.g ⟨by omega, by omega⟩ ?_)
      refine ih (k + 1) _ _ _ _ (by omega) (LX.setA (t := 1) lq (by rw [gq.hk]; rw [k141])) (gq.set rfl) (fun j hj => ?_)
      by_cases z : j = k
      · rw [z]; exact hv_set_at ..
      · rw [hv_set_ne (by omega)]; exact lo j (by omega)
  refine Ends.eq (b332_0 (n := n) (by (repeat' first | assumption | refine LX.setF _ _ ?_ (by decide +kernel) | refine LX.setS ?_ rfl | refine LX.setA ?_ (by first | assumption | omega))) (by first | assumption | omega)) ?_
  exact clr (4 * n) 0 h _ _ _ (by omega) l Agr.rf (fun j hj => absurd hj (by omega))
end PATHC
